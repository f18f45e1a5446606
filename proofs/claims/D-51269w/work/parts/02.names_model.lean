/-! DECODE ROWS BY BYTES: one lemma an opcode; a method's code is cut into short pieces once, and a row reads its own piece alone. -/
set_option maxRecDepth 100000
/-- the code has just these bytes from pc on -/
def DkAt (code : ByteArray) (pc : Nat) (bs : List UInt8) : Prop := ∀ (j : Nat) (b : UInt8), bs[j]? = some b → code.data.toList[pc + j]? = some b
/-- the piece W has the bytes bs from its place j on -/
def dkIn (W : List UInt8) (j : Nat) (bs : List UInt8) : Bool := decide ((W.drop j).take bs.length = bs)
theorem dk_seg {l W T : List UInt8} {o o2 : Nat} (h : l.drop o = W ++ T) (n : Nat) (hn : W.length = n) (ho : o + n = o2) : l.drop o2 = T := by
  subst ho
  rw [← List.drop_drop, h, List.drop_left' hn]
theorem dk_at {code : ByteArray} {W T bs : List UInt8} {o pc : Nat} (h : code.data.toList.drop o = W ++ T) (j : Nat) (hp : o + j = pc) (hw : dkIn W j bs = true) : DkAt code pc bs := by
  subst hp
  intro i b e
  have h1 := of_decide_eq_true hw
  have h2 : i < bs.length := (List.getElem?_eq_some_iff.mp e).1
  have h3 : W[j + i]? = some b := by
    rw [← h1, List.getElem?_take, if_pos h2, List.getElem?_drop] at e
    exact e
  have h4 : j + i < W.length := (List.getElem?_eq_some_iff.mp h3).1
  have h5 : (code.data.toList.drop o)[j + i]? = some b := by
    rw [h, List.getElem?_append_left h4]
    exact h3
  rw [List.getElem?_drop, ← Nat.add_assoc] at h5
  exact h5
theorem dk_u1 {A : ByteArray} {p : Nat} {b : UInt8} (h : A.data.toList[p]? = some b) : (Reader.u1 : Reader DecodeError Nat) A p = .ok (b.toNat, p + 1) := by
  obtain ⟨h1, h2⟩ := List.getElem?_eq_some_iff.mp h
  have h3 : p < A.size := by simpa using h1
  have h4 : A[p]'h3 = b := h2
  have e : (Reader.u1 : Reader DecodeError Nat) A p = (if h : p < A.size then .ok (A[p].toNat, p + 1) else .error (HasTruncated.truncated p)) := by
    show (do if h : p < A.size then do set (p + 1); Pure.pure A[p].toNat else MonadExcept.throw (HasTruncated.truncated p) : Reader DecodeError Nat) A p = _
    by_cases hi : p < A.size
    · rw [dif_pos hi, dif_pos hi]; rfl
    · rw [dif_neg hi, dif_neg hi]; rfl
  rw [e, dif_pos h3, h4]
theorem dk_bind {α β : Type} {r : Reader DecodeError α} {f : α → Reader DecodeError β} {A : ByteArray} {p s : Nat} {a : α} (h : r A p = .ok (a, s)) : (r >>= f) A p = f a A s := by
  show (do let (a, s) ← r A p; f a A s : Except DecodeError (β × Nat)) = _
  rw [h]
  rfl
theorem dk_map {α β : Type} {r : Reader DecodeError α} {g : α → β} {A : ByteArray} {p s : Nat} {a : α} (h : r A p = .ok (a, s)) : (g <$> r) A p = .ok (g a, s) := by
  show (do let (a, s) ← r A p; .ok (g a, s) : Except DecodeError (β × Nat)) = _
  rw [h]
  rfl
theorem dk_u2 {A : ByteArray} {p : Nat} {a b : UInt8} (h : A.data.toList[p]? = some a) (h2 : A.data.toList[p + 1]? = some b) : (Reader.u2 : Reader DecodeError Nat) A p = .ok (a.toNat * 256 + b.toNat, p + 2) := by
  show (Reader.u1 >>= fun hi => Reader.u1 >>= fun lo => Pure.pure (hi * 256 + lo) : Reader DecodeError Nat) A p = _
  rw [dk_bind (dk_u1 h), dk_bind (dk_u1 h2)]
  rfl
theorem dk_of {code : ByteArray} {pc n : Nat} {i : Instr} (h : Decoder.instr pc code pc = .ok (i, pc + n)) : decode code pc = .ok (i, n) := by
  have e : decode code pc = (match Decoder.instr pc code pc with | .error x => .error x | .ok (j, s) => .ok (j, s - pc)) := by
    show (do let (j, s) ← Decoder.instr pc code pc; Pure.pure (j, s - pc) : Except DecodeError (Instr × Nat)) = _
    cases Decoder.instr pc code pc <;> rfl
  rw [e, h]
  show Except.ok (i, pc + n - pc) = _
  rw [Nat.add_sub_cancel_left]
theorem dk_1 {code : ByteArray} {pc : Nat} (h : DkAt code pc [1]) : decode code pc = .ok (.aconst_null, 1) := dk_of ((dk_bind (dk_u1 (h 0 _ rfl))).trans rfl)
theorem dk_2 {code : ByteArray} {pc : Nat} (h : DkAt code pc [2]) : decode code pc = .ok (.iconst (-1), 1) := dk_of ((dk_bind (dk_u1 (h 0 _ rfl))).trans rfl)
theorem dk_3 {code : ByteArray} {pc : Nat} (h : DkAt code pc [3]) : decode code pc = .ok (.iconst 0, 1) := dk_of ((dk_bind (dk_u1 (h 0 _ rfl))).trans rfl)
theorem dk_4 {code : ByteArray} {pc : Nat} (h : DkAt code pc [4]) : decode code pc = .ok (.iconst 1, 1) := dk_of ((dk_bind (dk_u1 (h 0 _ rfl))).trans rfl)
theorem dk_5 {code : ByteArray} {pc : Nat} (h : DkAt code pc [5]) : decode code pc = .ok (.iconst 2, 1) := dk_of ((dk_bind (dk_u1 (h 0 _ rfl))).trans rfl)
theorem dk_6 {code : ByteArray} {pc : Nat} (h : DkAt code pc [6]) : decode code pc = .ok (.iconst 3, 1) := dk_of ((dk_bind (dk_u1 (h 0 _ rfl))).trans rfl)
theorem dk_7 {code : ByteArray} {pc : Nat} (h : DkAt code pc [7]) : decode code pc = .ok (.iconst 4, 1) := dk_of ((dk_bind (dk_u1 (h 0 _ rfl))).trans rfl)
theorem dk_8 {code : ByteArray} {pc : Nat} (h : DkAt code pc [8]) : decode code pc = .ok (.iconst 5, 1) := dk_of ((dk_bind (dk_u1 (h 0 _ rfl))).trans rfl)
theorem dk_9 {code : ByteArray} {pc : Nat} (h : DkAt code pc [9]) : decode code pc = .ok (.lconst 0, 1) := dk_of ((dk_bind (dk_u1 (h 0 _ rfl))).trans rfl)
theorem dk_10 {code : ByteArray} {pc : Nat} (h : DkAt code pc [10]) : decode code pc = .ok (.lconst 1, 1) := dk_of ((dk_bind (dk_u1 (h 0 _ rfl))).trans rfl)
theorem dk_11 {code : ByteArray} {pc : Nat} (h : DkAt code pc [11]) : decode code pc = .ok (.fconst 0, 1) := dk_of ((dk_bind (dk_u1 (h 0 _ rfl))).trans rfl)
theorem dk_14 {code : ByteArray} {pc : Nat} (h : DkAt code pc [14]) : decode code pc = .ok (.dconst 0, 1) := dk_of ((dk_bind (dk_u1 (h 0 _ rfl))).trans rfl)
theorem dk_16 {code : ByteArray} {pc : Nat} (a : UInt8) (h : DkAt code pc [16, a]) : decode code pc = .ok (.bipush (Reader.signed 8 a.toNat), 2) := dk_of ((dk_bind (dk_u1 (h 0 _ rfl))).trans ((dk_bind (dk_map (dk_u1 (h 1 _ rfl)))).trans rfl))
theorem dk_17 {code : ByteArray} {pc : Nat} (a b : UInt8) (h : DkAt code pc [17, a, b]) : decode code pc = .ok (.sipush (Reader.signed 16 (a.toNat * 256 + b.toNat)), 3) := dk_of ((dk_bind (dk_u1 (h 0 _ rfl))).trans ((dk_bind (dk_map (dk_u2 (h 1 _ rfl) (h 2 _ rfl)))).trans rfl))
theorem dk_18 {code : ByteArray} {pc : Nat} (a : UInt8) (h : DkAt code pc [18, a]) : decode code pc = .ok (.ldc a.toNat, 2) := dk_of ((dk_bind (dk_u1 (h 0 _ rfl))).trans ((dk_bind (dk_u1 (h 1 _ rfl))).trans rfl))
theorem dk_19 {code : ByteArray} {pc : Nat} (a b : UInt8) (h : DkAt code pc [19, a, b]) : decode code pc = .ok (.ldc_w (a.toNat * 256 + b.toNat), 3) := dk_of ((dk_bind (dk_u1 (h 0 _ rfl))).trans ((dk_bind (dk_u2 (h 1 _ rfl) (h 2 _ rfl))).trans rfl))
theorem dk_20 {code : ByteArray} {pc : Nat} (a b : UInt8) (h : DkAt code pc [20, a, b]) : decode code pc = .ok (.ldc2_w (a.toNat * 256 + b.toNat), 3) := dk_of ((dk_bind (dk_u1 (h 0 _ rfl))).trans ((dk_bind (dk_u2 (h 1 _ rfl) (h 2 _ rfl))).trans rfl))
theorem dk_21 {code : ByteArray} {pc : Nat} (a : UInt8) (h : DkAt code pc [21, a]) : decode code pc = .ok (.iload a.toNat, 2) := dk_of ((dk_bind (dk_u1 (h 0 _ rfl))).trans ((dk_bind (dk_u1 (h 1 _ rfl))).trans rfl))
theorem dk_22 {code : ByteArray} {pc : Nat} (a : UInt8) (h : DkAt code pc [22, a]) : decode code pc = .ok (.lload a.toNat, 2) := dk_of ((dk_bind (dk_u1 (h 0 _ rfl))).trans ((dk_bind (dk_u1 (h 1 _ rfl))).trans rfl))
theorem dk_23 {code : ByteArray} {pc : Nat} (a : UInt8) (h : DkAt code pc [23, a]) : decode code pc = .ok (.fload a.toNat, 2) := dk_of ((dk_bind (dk_u1 (h 0 _ rfl))).trans ((dk_bind (dk_u1 (h 1 _ rfl))).trans rfl))
theorem dk_24 {code : ByteArray} {pc : Nat} (a : UInt8) (h : DkAt code pc [24, a]) : decode code pc = .ok (.dload a.toNat, 2) := dk_of ((dk_bind (dk_u1 (h 0 _ rfl))).trans ((dk_bind (dk_u1 (h 1 _ rfl))).trans rfl))
theorem dk_25 {code : ByteArray} {pc : Nat} (a : UInt8) (h : DkAt code pc [25, a]) : decode code pc = .ok (.aload a.toNat, 2) := dk_of ((dk_bind (dk_u1 (h 0 _ rfl))).trans ((dk_bind (dk_u1 (h 1 _ rfl))).trans rfl))
theorem dk_26 {code : ByteArray} {pc : Nat} (h : DkAt code pc [26]) : decode code pc = .ok (.iload_n 0, 1) := dk_of ((dk_bind (dk_u1 (h 0 _ rfl))).trans rfl)
theorem dk_27 {code : ByteArray} {pc : Nat} (h : DkAt code pc [27]) : decode code pc = .ok (.iload_n 1, 1) := dk_of ((dk_bind (dk_u1 (h 0 _ rfl))).trans rfl)
theorem dk_28 {code : ByteArray} {pc : Nat} (h : DkAt code pc [28]) : decode code pc = .ok (.iload_n 2, 1) := dk_of ((dk_bind (dk_u1 (h 0 _ rfl))).trans rfl)
theorem dk_29 {code : ByteArray} {pc : Nat} (h : DkAt code pc [29]) : decode code pc = .ok (.iload_n 3, 1) := dk_of ((dk_bind (dk_u1 (h 0 _ rfl))).trans rfl)
theorem dk_30 {code : ByteArray} {pc : Nat} (h : DkAt code pc [30]) : decode code pc = .ok (.lload_n 0, 1) := dk_of ((dk_bind (dk_u1 (h 0 _ rfl))).trans rfl)
theorem dk_32 {code : ByteArray} {pc : Nat} (h : DkAt code pc [32]) : decode code pc = .ok (.lload_n 2, 1) := dk_of ((dk_bind (dk_u1 (h 0 _ rfl))).trans rfl)
theorem dk_42 {code : ByteArray} {pc : Nat} (h : DkAt code pc [42]) : decode code pc = .ok (.aload_n 0, 1) := dk_of ((dk_bind (dk_u1 (h 0 _ rfl))).trans rfl)
theorem dk_43 {code : ByteArray} {pc : Nat} (h : DkAt code pc [43]) : decode code pc = .ok (.aload_n 1, 1) := dk_of ((dk_bind (dk_u1 (h 0 _ rfl))).trans rfl)
theorem dk_44 {code : ByteArray} {pc : Nat} (h : DkAt code pc [44]) : decode code pc = .ok (.aload_n 2, 1) := dk_of ((dk_bind (dk_u1 (h 0 _ rfl))).trans rfl)
theorem dk_45 {code : ByteArray} {pc : Nat} (h : DkAt code pc [45]) : decode code pc = .ok (.aload_n 3, 1) := dk_of ((dk_bind (dk_u1 (h 0 _ rfl))).trans rfl)
theorem dk_46 {code : ByteArray} {pc : Nat} (h : DkAt code pc [46]) : decode code pc = .ok (.iaload, 1) := dk_of ((dk_bind (dk_u1 (h 0 _ rfl))).trans rfl)
theorem dk_47 {code : ByteArray} {pc : Nat} (h : DkAt code pc [47]) : decode code pc = .ok (.laload, 1) := dk_of ((dk_bind (dk_u1 (h 0 _ rfl))).trans rfl)
theorem dk_49 {code : ByteArray} {pc : Nat} (h : DkAt code pc [49]) : decode code pc = .ok (.daload, 1) := dk_of ((dk_bind (dk_u1 (h 0 _ rfl))).trans rfl)
theorem dk_50 {code : ByteArray} {pc : Nat} (h : DkAt code pc [50]) : decode code pc = .ok (.aaload, 1) := dk_of ((dk_bind (dk_u1 (h 0 _ rfl))).trans rfl)
theorem dk_51 {code : ByteArray} {pc : Nat} (h : DkAt code pc [51]) : decode code pc = .ok (.baload, 1) := dk_of ((dk_bind (dk_u1 (h 0 _ rfl))).trans rfl)
theorem dk_52 {code : ByteArray} {pc : Nat} (h : DkAt code pc [52]) : decode code pc = .ok (.caload, 1) := dk_of ((dk_bind (dk_u1 (h 0 _ rfl))).trans rfl)
theorem dk_53 {code : ByteArray} {pc : Nat} (h : DkAt code pc [53]) : decode code pc = .ok (.saload, 1) := dk_of ((dk_bind (dk_u1 (h 0 _ rfl))).trans rfl)
theorem dk_54 {code : ByteArray} {pc : Nat} (a : UInt8) (h : DkAt code pc [54, a]) : decode code pc = .ok (.istore a.toNat, 2) := dk_of ((dk_bind (dk_u1 (h 0 _ rfl))).trans ((dk_bind (dk_u1 (h 1 _ rfl))).trans rfl))
theorem dk_56 {code : ByteArray} {pc : Nat} (a : UInt8) (h : DkAt code pc [56, a]) : decode code pc = .ok (.fstore a.toNat, 2) := dk_of ((dk_bind (dk_u1 (h 0 _ rfl))).trans ((dk_bind (dk_u1 (h 1 _ rfl))).trans rfl))
theorem dk_57 {code : ByteArray} {pc : Nat} (a : UInt8) (h : DkAt code pc [57, a]) : decode code pc = .ok (.dstore a.toNat, 2) := dk_of ((dk_bind (dk_u1 (h 0 _ rfl))).trans ((dk_bind (dk_u1 (h 1 _ rfl))).trans rfl))
theorem dk_58 {code : ByteArray} {pc : Nat} (a : UInt8) (h : DkAt code pc [58, a]) : decode code pc = .ok (.astore a.toNat, 2) := dk_of ((dk_bind (dk_u1 (h 0 _ rfl))).trans ((dk_bind (dk_u1 (h 1 _ rfl))).trans rfl))
theorem dk_59 {code : ByteArray} {pc : Nat} (h : DkAt code pc [59]) : decode code pc = .ok (.istore_n 0, 1) := dk_of ((dk_bind (dk_u1 (h 0 _ rfl))).trans rfl)
theorem dk_60 {code : ByteArray} {pc : Nat} (h : DkAt code pc [60]) : decode code pc = .ok (.istore_n 1, 1) := dk_of ((dk_bind (dk_u1 (h 0 _ rfl))).trans rfl)
theorem dk_61 {code : ByteArray} {pc : Nat} (h : DkAt code pc [61]) : decode code pc = .ok (.istore_n 2, 1) := dk_of ((dk_bind (dk_u1 (h 0 _ rfl))).trans rfl)
theorem dk_62 {code : ByteArray} {pc : Nat} (h : DkAt code pc [62]) : decode code pc = .ok (.istore_n 3, 1) := dk_of ((dk_bind (dk_u1 (h 0 _ rfl))).trans rfl)
theorem dk_76 {code : ByteArray} {pc : Nat} (h : DkAt code pc [76]) : decode code pc = .ok (.astore_n 1, 1) := dk_of ((dk_bind (dk_u1 (h 0 _ rfl))).trans rfl)
theorem dk_77 {code : ByteArray} {pc : Nat} (h : DkAt code pc [77]) : decode code pc = .ok (.astore_n 2, 1) := dk_of ((dk_bind (dk_u1 (h 0 _ rfl))).trans rfl)
theorem dk_78 {code : ByteArray} {pc : Nat} (h : DkAt code pc [78]) : decode code pc = .ok (.astore_n 3, 1) := dk_of ((dk_bind (dk_u1 (h 0 _ rfl))).trans rfl)
theorem dk_79 {code : ByteArray} {pc : Nat} (h : DkAt code pc [79]) : decode code pc = .ok (.iastore, 1) := dk_of ((dk_bind (dk_u1 (h 0 _ rfl))).trans rfl)
theorem dk_80 {code : ByteArray} {pc : Nat} (h : DkAt code pc [80]) : decode code pc = .ok (.lastore, 1) := dk_of ((dk_bind (dk_u1 (h 0 _ rfl))).trans rfl)
theorem dk_82 {code : ByteArray} {pc : Nat} (h : DkAt code pc [82]) : decode code pc = .ok (.dastore, 1) := dk_of ((dk_bind (dk_u1 (h 0 _ rfl))).trans rfl)
theorem dk_83 {code : ByteArray} {pc : Nat} (h : DkAt code pc [83]) : decode code pc = .ok (.aastore, 1) := dk_of ((dk_bind (dk_u1 (h 0 _ rfl))).trans rfl)
theorem dk_84 {code : ByteArray} {pc : Nat} (h : DkAt code pc [84]) : decode code pc = .ok (.bastore, 1) := dk_of ((dk_bind (dk_u1 (h 0 _ rfl))).trans rfl)
theorem dk_87 {code : ByteArray} {pc : Nat} (h : DkAt code pc [87]) : decode code pc = .ok (.pop, 1) := dk_of ((dk_bind (dk_u1 (h 0 _ rfl))).trans rfl)
theorem dk_89 {code : ByteArray} {pc : Nat} (h : DkAt code pc [89]) : decode code pc = .ok (.dup, 1) := dk_of ((dk_bind (dk_u1 (h 0 _ rfl))).trans rfl)
theorem dk_90 {code : ByteArray} {pc : Nat} (h : DkAt code pc [90]) : decode code pc = .ok (.dup_x1, 1) := dk_of ((dk_bind (dk_u1 (h 0 _ rfl))).trans rfl)
theorem dk_92 {code : ByteArray} {pc : Nat} (h : DkAt code pc [92]) : decode code pc = .ok (.dup2, 1) := dk_of ((dk_bind (dk_u1 (h 0 _ rfl))).trans rfl)
theorem dk_96 {code : ByteArray} {pc : Nat} (h : DkAt code pc [96]) : decode code pc = .ok (.iadd, 1) := dk_of ((dk_bind (dk_u1 (h 0 _ rfl))).trans rfl)
theorem dk_100 {code : ByteArray} {pc : Nat} (h : DkAt code pc [100]) : decode code pc = .ok (.isub, 1) := dk_of ((dk_bind (dk_u1 (h 0 _ rfl))).trans rfl)
theorem dk_104 {code : ByteArray} {pc : Nat} (h : DkAt code pc [104]) : decode code pc = .ok (.imul, 1) := dk_of ((dk_bind (dk_u1 (h 0 _ rfl))).trans rfl)
theorem dk_108 {code : ByteArray} {pc : Nat} (h : DkAt code pc [108]) : decode code pc = .ok (.idiv, 1) := dk_of ((dk_bind (dk_u1 (h 0 _ rfl))).trans rfl)
theorem dk_110 {code : ByteArray} {pc : Nat} (h : DkAt code pc [110]) : decode code pc = .ok (.fdiv, 1) := dk_of ((dk_bind (dk_u1 (h 0 _ rfl))).trans rfl)
theorem dk_111 {code : ByteArray} {pc : Nat} (h : DkAt code pc [111]) : decode code pc = .ok (.ddiv, 1) := dk_of ((dk_bind (dk_u1 (h 0 _ rfl))).trans rfl)
theorem dk_112 {code : ByteArray} {pc : Nat} (h : DkAt code pc [112]) : decode code pc = .ok (.irem, 1) := dk_of ((dk_bind (dk_u1 (h 0 _ rfl))).trans rfl)
theorem dk_116 {code : ByteArray} {pc : Nat} (h : DkAt code pc [116]) : decode code pc = .ok (.ineg, 1) := dk_of ((dk_bind (dk_u1 (h 0 _ rfl))).trans rfl)
theorem dk_120 {code : ByteArray} {pc : Nat} (h : DkAt code pc [120]) : decode code pc = .ok (.ishl, 1) := dk_of ((dk_bind (dk_u1 (h 0 _ rfl))).trans rfl)
theorem dk_122 {code : ByteArray} {pc : Nat} (h : DkAt code pc [122]) : decode code pc = .ok (.ishr, 1) := dk_of ((dk_bind (dk_u1 (h 0 _ rfl))).trans rfl)
theorem dk_124 {code : ByteArray} {pc : Nat} (h : DkAt code pc [124]) : decode code pc = .ok (.iushr, 1) := dk_of ((dk_bind (dk_u1 (h 0 _ rfl))).trans rfl)
theorem dk_126 {code : ByteArray} {pc : Nat} (h : DkAt code pc [126]) : decode code pc = .ok (.iand, 1) := dk_of ((dk_bind (dk_u1 (h 0 _ rfl))).trans rfl)
theorem dk_128 {code : ByteArray} {pc : Nat} (h : DkAt code pc [128]) : decode code pc = .ok (.ior, 1) := dk_of ((dk_bind (dk_u1 (h 0 _ rfl))).trans rfl)
theorem dk_132 {code : ByteArray} {pc : Nat} (a b : UInt8) (h : DkAt code pc [132, a, b]) : decode code pc = .ok (.iinc a.toNat (Reader.signed 8 b.toNat), 3) := dk_of ((dk_bind (dk_u1 (h 0 _ rfl))).trans ((dk_bind (dk_u1 (h 1 _ rfl))).trans ((dk_bind (dk_map (dk_u1 (h 2 _ rfl)))).trans rfl)))
theorem dk_133 {code : ByteArray} {pc : Nat} (h : DkAt code pc [133]) : decode code pc = .ok (.i2l, 1) := dk_of ((dk_bind (dk_u1 (h 0 _ rfl))).trans rfl)
theorem dk_134 {code : ByteArray} {pc : Nat} (h : DkAt code pc [134]) : decode code pc = .ok (.i2f, 1) := dk_of ((dk_bind (dk_u1 (h 0 _ rfl))).trans rfl)
theorem dk_135 {code : ByteArray} {pc : Nat} (h : DkAt code pc [135]) : decode code pc = .ok (.i2d, 1) := dk_of ((dk_bind (dk_u1 (h 0 _ rfl))).trans rfl)
theorem dk_141 {code : ByteArray} {pc : Nat} (h : DkAt code pc [141]) : decode code pc = .ok (.f2d, 1) := dk_of ((dk_bind (dk_u1 (h 0 _ rfl))).trans rfl)
theorem dk_145 {code : ByteArray} {pc : Nat} (h : DkAt code pc [145]) : decode code pc = .ok (.i2b, 1) := dk_of ((dk_bind (dk_u1 (h 0 _ rfl))).trans rfl)
theorem dk_146 {code : ByteArray} {pc : Nat} (h : DkAt code pc [146]) : decode code pc = .ok (.i2c, 1) := dk_of ((dk_bind (dk_u1 (h 0 _ rfl))).trans rfl)
theorem dk_148 {code : ByteArray} {pc : Nat} (h : DkAt code pc [148]) : decode code pc = .ok (.lcmp, 1) := dk_of ((dk_bind (dk_u1 (h 0 _ rfl))).trans rfl)
theorem dk_149 {code : ByteArray} {pc : Nat} (h : DkAt code pc [149]) : decode code pc = .ok (.fcmp .l, 1) := dk_of ((dk_bind (dk_u1 (h 0 _ rfl))).trans rfl)
theorem dk_151 {code : ByteArray} {pc : Nat} (h : DkAt code pc [151]) : decode code pc = .ok (.dcmp .l, 1) := dk_of ((dk_bind (dk_u1 (h 0 _ rfl))).trans rfl)
theorem dk_153 {code : ByteArray} {pc : Nat} (a b : UInt8) (h : DkAt code pc [153, a, b]) : decode code pc = .ok (.ifCond .eq (Reader.signed 16 (a.toNat * 256 + b.toNat)), 3) := dk_of ((dk_bind (dk_u1 (h 0 _ rfl))).trans ((dk_bind (dk_map (dk_u2 (h 1 _ rfl) (h 2 _ rfl)))).trans rfl))
theorem dk_154 {code : ByteArray} {pc : Nat} (a b : UInt8) (h : DkAt code pc [154, a, b]) : decode code pc = .ok (.ifCond .ne (Reader.signed 16 (a.toNat * 256 + b.toNat)), 3) := dk_of ((dk_bind (dk_u1 (h 0 _ rfl))).trans ((dk_bind (dk_map (dk_u2 (h 1 _ rfl) (h 2 _ rfl)))).trans rfl))
theorem dk_155 {code : ByteArray} {pc : Nat} (a b : UInt8) (h : DkAt code pc [155, a, b]) : decode code pc = .ok (.ifCond .lt (Reader.signed 16 (a.toNat * 256 + b.toNat)), 3) := dk_of ((dk_bind (dk_u1 (h 0 _ rfl))).trans ((dk_bind (dk_map (dk_u2 (h 1 _ rfl) (h 2 _ rfl)))).trans rfl))
theorem dk_156 {code : ByteArray} {pc : Nat} (a b : UInt8) (h : DkAt code pc [156, a, b]) : decode code pc = .ok (.ifCond .ge (Reader.signed 16 (a.toNat * 256 + b.toNat)), 3) := dk_of ((dk_bind (dk_u1 (h 0 _ rfl))).trans ((dk_bind (dk_map (dk_u2 (h 1 _ rfl) (h 2 _ rfl)))).trans rfl))
theorem dk_157 {code : ByteArray} {pc : Nat} (a b : UInt8) (h : DkAt code pc [157, a, b]) : decode code pc = .ok (.ifCond .gt (Reader.signed 16 (a.toNat * 256 + b.toNat)), 3) := dk_of ((dk_bind (dk_u1 (h 0 _ rfl))).trans ((dk_bind (dk_map (dk_u2 (h 1 _ rfl) (h 2 _ rfl)))).trans rfl))
theorem dk_158 {code : ByteArray} {pc : Nat} (a b : UInt8) (h : DkAt code pc [158, a, b]) : decode code pc = .ok (.ifCond .le (Reader.signed 16 (a.toNat * 256 + b.toNat)), 3) := dk_of ((dk_bind (dk_u1 (h 0 _ rfl))).trans ((dk_bind (dk_map (dk_u2 (h 1 _ rfl) (h 2 _ rfl)))).trans rfl))
theorem dk_159 {code : ByteArray} {pc : Nat} (a b : UInt8) (h : DkAt code pc [159, a, b]) : decode code pc = .ok (.if_icmp .eq (Reader.signed 16 (a.toNat * 256 + b.toNat)), 3) := dk_of ((dk_bind (dk_u1 (h 0 _ rfl))).trans ((dk_bind (dk_map (dk_u2 (h 1 _ rfl) (h 2 _ rfl)))).trans rfl))
theorem dk_160 {code : ByteArray} {pc : Nat} (a b : UInt8) (h : DkAt code pc [160, a, b]) : decode code pc = .ok (.if_icmp .ne (Reader.signed 16 (a.toNat * 256 + b.toNat)), 3) := dk_of ((dk_bind (dk_u1 (h 0 _ rfl))).trans ((dk_bind (dk_map (dk_u2 (h 1 _ rfl) (h 2 _ rfl)))).trans rfl))
theorem dk_161 {code : ByteArray} {pc : Nat} (a b : UInt8) (h : DkAt code pc [161, a, b]) : decode code pc = .ok (.if_icmp .lt (Reader.signed 16 (a.toNat * 256 + b.toNat)), 3) := dk_of ((dk_bind (dk_u1 (h 0 _ rfl))).trans ((dk_bind (dk_map (dk_u2 (h 1 _ rfl) (h 2 _ rfl)))).trans rfl))
theorem dk_162 {code : ByteArray} {pc : Nat} (a b : UInt8) (h : DkAt code pc [162, a, b]) : decode code pc = .ok (.if_icmp .ge (Reader.signed 16 (a.toNat * 256 + b.toNat)), 3) := dk_of ((dk_bind (dk_u1 (h 0 _ rfl))).trans ((dk_bind (dk_map (dk_u2 (h 1 _ rfl) (h 2 _ rfl)))).trans rfl))
theorem dk_163 {code : ByteArray} {pc : Nat} (a b : UInt8) (h : DkAt code pc [163, a, b]) : decode code pc = .ok (.if_icmp .gt (Reader.signed 16 (a.toNat * 256 + b.toNat)), 3) := dk_of ((dk_bind (dk_u1 (h 0 _ rfl))).trans ((dk_bind (dk_map (dk_u2 (h 1 _ rfl) (h 2 _ rfl)))).trans rfl))
theorem dk_164 {code : ByteArray} {pc : Nat} (a b : UInt8) (h : DkAt code pc [164, a, b]) : decode code pc = .ok (.if_icmp .le (Reader.signed 16 (a.toNat * 256 + b.toNat)), 3) := dk_of ((dk_bind (dk_u1 (h 0 _ rfl))).trans ((dk_bind (dk_map (dk_u2 (h 1 _ rfl) (h 2 _ rfl)))).trans rfl))
theorem dk_165 {code : ByteArray} {pc : Nat} (a b : UInt8) (h : DkAt code pc [165, a, b]) : decode code pc = .ok (.if_acmp .eq (Reader.signed 16 (a.toNat * 256 + b.toNat)), 3) := dk_of ((dk_bind (dk_u1 (h 0 _ rfl))).trans ((dk_bind (dk_map (dk_u2 (h 1 _ rfl) (h 2 _ rfl)))).trans rfl))
theorem dk_166 {code : ByteArray} {pc : Nat} (a b : UInt8) (h : DkAt code pc [166, a, b]) : decode code pc = .ok (.if_acmp .ne (Reader.signed 16 (a.toNat * 256 + b.toNat)), 3) := dk_of ((dk_bind (dk_u1 (h 0 _ rfl))).trans ((dk_bind (dk_map (dk_u2 (h 1 _ rfl) (h 2 _ rfl)))).trans rfl))
theorem dk_167 {code : ByteArray} {pc : Nat} (a b : UInt8) (h : DkAt code pc [167, a, b]) : decode code pc = .ok (.goto (Reader.signed 16 (a.toNat * 256 + b.toNat)), 3) := dk_of ((dk_bind (dk_u1 (h 0 _ rfl))).trans ((dk_bind (dk_map (dk_u2 (h 1 _ rfl) (h 2 _ rfl)))).trans rfl))
theorem dk_172 {code : ByteArray} {pc : Nat} (h : DkAt code pc [172]) : decode code pc = .ok (.ireturn, 1) := dk_of ((dk_bind (dk_u1 (h 0 _ rfl))).trans rfl)
theorem dk_174 {code : ByteArray} {pc : Nat} (h : DkAt code pc [174]) : decode code pc = .ok (.freturn, 1) := dk_of ((dk_bind (dk_u1 (h 0 _ rfl))).trans rfl)
theorem dk_175 {code : ByteArray} {pc : Nat} (h : DkAt code pc [175]) : decode code pc = .ok (.dreturn, 1) := dk_of ((dk_bind (dk_u1 (h 0 _ rfl))).trans rfl)
theorem dk_176 {code : ByteArray} {pc : Nat} (h : DkAt code pc [176]) : decode code pc = .ok (.areturn, 1) := dk_of ((dk_bind (dk_u1 (h 0 _ rfl))).trans rfl)
theorem dk_177 {code : ByteArray} {pc : Nat} (h : DkAt code pc [177]) : decode code pc = .ok (.return_, 1) := dk_of ((dk_bind (dk_u1 (h 0 _ rfl))).trans rfl)
theorem dk_178 {code : ByteArray} {pc : Nat} (a b : UInt8) (h : DkAt code pc [178, a, b]) : decode code pc = .ok (.getstatic (a.toNat * 256 + b.toNat), 3) := dk_of ((dk_bind (dk_u1 (h 0 _ rfl))).trans ((dk_bind (dk_u2 (h 1 _ rfl) (h 2 _ rfl))).trans rfl))
theorem dk_180 {code : ByteArray} {pc : Nat} (a b : UInt8) (h : DkAt code pc [180, a, b]) : decode code pc = .ok (.getfield (a.toNat * 256 + b.toNat), 3) := dk_of ((dk_bind (dk_u1 (h 0 _ rfl))).trans ((dk_bind (dk_u2 (h 1 _ rfl) (h 2 _ rfl))).trans rfl))
theorem dk_181 {code : ByteArray} {pc : Nat} (a b : UInt8) (h : DkAt code pc [181, a, b]) : decode code pc = .ok (.putfield (a.toNat * 256 + b.toNat), 3) := dk_of ((dk_bind (dk_u1 (h 0 _ rfl))).trans ((dk_bind (dk_u2 (h 1 _ rfl) (h 2 _ rfl))).trans rfl))
theorem dk_182 {code : ByteArray} {pc : Nat} (a b : UInt8) (h : DkAt code pc [182, a, b]) : decode code pc = .ok (.invokevirtual (a.toNat * 256 + b.toNat), 3) := dk_of ((dk_bind (dk_u1 (h 0 _ rfl))).trans ((dk_bind (dk_u2 (h 1 _ rfl) (h 2 _ rfl))).trans rfl))
theorem dk_183 {code : ByteArray} {pc : Nat} (a b : UInt8) (h : DkAt code pc [183, a, b]) : decode code pc = .ok (.invokespecial (a.toNat * 256 + b.toNat), 3) := dk_of ((dk_bind (dk_u1 (h 0 _ rfl))).trans ((dk_bind (dk_u2 (h 1 _ rfl) (h 2 _ rfl))).trans rfl))
theorem dk_184 {code : ByteArray} {pc : Nat} (a b : UInt8) (h : DkAt code pc [184, a, b]) : decode code pc = .ok (.invokestatic (a.toNat * 256 + b.toNat), 3) := dk_of ((dk_bind (dk_u1 (h 0 _ rfl))).trans ((dk_bind (dk_u2 (h 1 _ rfl) (h 2 _ rfl))).trans rfl))
theorem dk_187 {code : ByteArray} {pc : Nat} (a b : UInt8) (h : DkAt code pc [187, a, b]) : decode code pc = .ok (.new (a.toNat * 256 + b.toNat), 3) := dk_of ((dk_bind (dk_u1 (h 0 _ rfl))).trans ((dk_bind (dk_u2 (h 1 _ rfl) (h 2 _ rfl))).trans rfl))
theorem dk_188_4 {code : ByteArray} {pc : Nat} (h : DkAt code pc [188, 4]) : decode code pc = .ok (.newarray .boolean, 2) := dk_of ((dk_bind (dk_u1 (h 0 _ rfl))).trans ((dk_bind (dk_u1 (h 1 _ rfl))).trans rfl))
theorem dk_188_7 {code : ByteArray} {pc : Nat} (h : DkAt code pc [188, 7]) : decode code pc = .ok (.newarray .double, 2) := dk_of ((dk_bind (dk_u1 (h 0 _ rfl))).trans ((dk_bind (dk_u1 (h 1 _ rfl))).trans rfl))
theorem dk_188_8 {code : ByteArray} {pc : Nat} (h : DkAt code pc [188, 8]) : decode code pc = .ok (.newarray .byte, 2) := dk_of ((dk_bind (dk_u1 (h 0 _ rfl))).trans ((dk_bind (dk_u1 (h 1 _ rfl))).trans rfl))
theorem dk_188_10 {code : ByteArray} {pc : Nat} (h : DkAt code pc [188, 10]) : decode code pc = .ok (.newarray .int, 2) := dk_of ((dk_bind (dk_u1 (h 0 _ rfl))).trans ((dk_bind (dk_u1 (h 1 _ rfl))).trans rfl))
theorem dk_188_11 {code : ByteArray} {pc : Nat} (h : DkAt code pc [188, 11]) : decode code pc = .ok (.newarray .long, 2) := dk_of ((dk_bind (dk_u1 (h 0 _ rfl))).trans ((dk_bind (dk_u1 (h 1 _ rfl))).trans rfl))
theorem dk_189 {code : ByteArray} {pc : Nat} (a b : UInt8) (h : DkAt code pc [189, a, b]) : decode code pc = .ok (.anewarray (a.toNat * 256 + b.toNat), 3) := dk_of ((dk_bind (dk_u1 (h 0 _ rfl))).trans ((dk_bind (dk_u2 (h 1 _ rfl) (h 2 _ rfl))).trans rfl))
theorem dk_190 {code : ByteArray} {pc : Nat} (h : DkAt code pc [190]) : decode code pc = .ok (.arraylength, 1) := dk_of ((dk_bind (dk_u1 (h 0 _ rfl))).trans rfl)
theorem dk_191 {code : ByteArray} {pc : Nat} (h : DkAt code pc [191]) : decode code pc = .ok (.athrow, 1) := dk_of ((dk_bind (dk_u1 (h 0 _ rfl))).trans rfl)
theorem dk_192 {code : ByteArray} {pc : Nat} (a b : UInt8) (h : DkAt code pc [192, a, b]) : decode code pc = .ok (.checkcast (a.toNat * 256 + b.toNat), 3) := dk_of ((dk_bind (dk_u1 (h 0 _ rfl))).trans ((dk_bind (dk_u2 (h 1 _ rfl) (h 2 _ rfl))).trans rfl))
theorem dk_193 {code : ByteArray} {pc : Nat} (a b : UInt8) (h : DkAt code pc [193, a, b]) : decode code pc = .ok (.instanceof (a.toNat * 256 + b.toNat), 3) := dk_of ((dk_bind (dk_u1 (h 0 _ rfl))).trans ((dk_bind (dk_u2 (h 1 _ rfl) (h 2 _ rfl))).trans rfl))
theorem dk_198 {code : ByteArray} {pc : Nat} (a b : UInt8) (h : DkAt code pc [198, a, b]) : decode code pc = .ok (.ifnull (Reader.signed 16 (a.toNat * 256 + b.toNat)), 3) := dk_of ((dk_bind (dk_u1 (h 0 _ rfl))).trans ((dk_bind (dk_map (dk_u2 (h 1 _ rfl) (h 2 _ rfl)))).trans rfl))
theorem dk_199 {code : ByteArray} {pc : Nat} (a b : UInt8) (h : DkAt code pc [199, a, b]) : decode code pc = .ok (.ifnonnull (Reader.signed 16 (a.toNat * 256 + b.toNat)), 3) := dk_of ((dk_bind (dk_u1 (h 0 _ rfl))).trans ((dk_bind (dk_map (dk_u2 (h 1 _ rfl) (h 2 _ rfl)))).trans rfl))

/-! PingEyeModel -/
set_option maxRecDepth 100000
def RX2 : String := "PingEyeModel"
def TX2 : u_T := fun k => match k with
  | 0 => ("PingEyeModel", "thrown", "I", false)
  | 1 => ("PingEyeModel", "isLoaded", "Z", false)
  | 2 => ("PingEyeModel", "s", "[I", true)
  | 3 => ("PingEyeModel", "stores", "[I", true)
  | 4 => ("PingEyeModel", "changes", "I", false)
  | 5 => ("PingEyeModel", "isKept", "[Z", true)
  | 6 => ("PingEyeModel", "buffer", "[I", true)
  | 7 => ("PingEyeModel", "buffered", "I", false)
  | 8 => ("PingEyeModel", "parseError", "I", false)
  | 9 => ("PingEyeModel", "errorPosition", "I", false)
  | 10 => ("PingEyeModel", "length", "I", false)
  | 11 => ("PingEyeModel", "next", "I", false)
  | 12 => ("PingEyeModel", "from", "I", false)
  | 13 => ("PingEyeModel", "sort", "I", false)
  | 14 => ("PingEyeModel", "number", "I", false)
  | 15 => ("PingEyeModel", "bad", "I", false)
  | 16 => ("PingEyeModel", "badAt", "I", false)
  | 17 => ("PingEyeModel", "text", "[I", true)
  | _ => ("PingEyeModel", "textLong", "I", false)
def tyX2 : Nat → FieldType := fun k => match k with
  | 0 => .int
  | 1 => .boolean
  | 2 => .array .int
  | 3 => .array .int
  | 4 => .int
  | 5 => .array .boolean
  | 6 => .array .int
  | 7 => .int
  | 8 => .int
  | 9 => .int
  | 10 => .int
  | 11 => .int
  | 12 => .int
  | 13 => .int
  | 14 => .int
  | 15 => .int
  | 16 => .int
  | 17 => .array .int
  | _ => .int
abbrev wsX20 : List Cond := u_ws RX2 TX2 19
set_option maxRecDepth 100000 in
theorem nmX2 : ∀ a, a < 19 → ∀ b, b < 19 → a ≠ b → (TX2 a).2.1 ≠ (TX2 b).2.1 := by decide +kernel
set_option maxRecDepth 100000 in
theorem tyX2_ok : ∀ k, k < 19 → parseFieldDescriptor (TX2 k).2.2.1 = some (tyX2 k) := by decide +kernel
abbrev cX2_init : ByteArray := prog_10_method_1_code
def yX2_init : MethodName := ⟨RX2, "<init>", "()V"⟩
def dkwX2_init_2 : List UInt8 := [188, 10, 181, 0, 27, 177]
abbrev dktX2_init_2 : List UInt8 := dkwX2_init_2 ++ []
def dkwX2_init_1 : List UInt8 := [188, 4, 181, 0, 16, 42, 17, 2, 88, 188, 10, 181, 0, 20, 42, 2, 181, 0, 23, 42, 17, 0, 200]
abbrev dktX2_init_1 : List UInt8 := dkwX2_init_1 ++ dktX2_init_2
def dkwX2_init_0 : List UInt8 := [42, 183, 0, 1, 42, 16, 113, 188, 10, 181, 0, 7, 42, 17, 4, 219, 188, 10, 181, 0, 13, 42, 5]
abbrev dktX2_init_0 : List UInt8 := dkwX2_init_0 ++ dktX2_init_1
theorem dksX2_init_0 : cX2_init.data.toList.drop 0 = dktX2_init_0 := by decide +kernel
theorem dksX2_init_1 : cX2_init.data.toList.drop 23 = dktX2_init_1 := dk_seg dksX2_init_0 23 rfl rfl
theorem dksX2_init_2 : cX2_init.data.toList.drop 46 = dktX2_init_2 := dk_seg dksX2_init_1 23 rfl rfl
theorem dX2_init_0 : decode cX2_init 0 = .ok (.aload_n 0, 1) := dk_42 (dk_at dksX2_init_0 0 rfl rfl)
theorem dX2_init_1 : decode cX2_init 1 = .ok (.invokespecial 1, 3) := dk_183 0 1 (dk_at dksX2_init_0 1 rfl rfl)
theorem dX2_init_4 : decode cX2_init 4 = .ok (.aload_n 0, 1) := dk_42 (dk_at dksX2_init_0 4 rfl rfl)
theorem dX2_init_5 : decode cX2_init 5 = .ok (.bipush 113, 2) := dk_16 113 (dk_at dksX2_init_0 5 rfl rfl)
theorem dX2_init_7 : decode cX2_init 7 = .ok (.newarray .int, 2) := dk_188_10 (dk_at dksX2_init_0 7 rfl rfl)
theorem dX2_init_9 : decode cX2_init 9 = .ok (.putfield 7, 3) := dk_181 0 7 (dk_at dksX2_init_0 9 rfl rfl)
theorem dX2_init_12 : decode cX2_init 12 = .ok (.aload_n 0, 1) := dk_42 (dk_at dksX2_init_0 12 rfl rfl)
theorem dX2_init_13 : decode cX2_init 13 = .ok (.sipush 1243, 3) := dk_17 4 219 (dk_at dksX2_init_0 13 rfl rfl)
theorem dX2_init_16 : decode cX2_init 16 = .ok (.newarray .int, 2) := dk_188_10 (dk_at dksX2_init_0 16 rfl rfl)
theorem dX2_init_18 : decode cX2_init 18 = .ok (.putfield 13, 3) := dk_181 0 13 (dk_at dksX2_init_0 18 rfl rfl)
theorem dX2_init_21 : decode cX2_init 21 = .ok (.aload_n 0, 1) := dk_42 (dk_at dksX2_init_0 21 rfl rfl)
theorem dX2_init_22 : decode cX2_init 22 = .ok (.iconst 2, 1) := dk_5 (dk_at dksX2_init_0 22 rfl rfl)
theorem dX2_init_23 : decode cX2_init 23 = .ok (.newarray .boolean, 2) := dk_188_4 (dk_at dksX2_init_1 0 rfl rfl)
theorem dX2_init_25 : decode cX2_init 25 = .ok (.putfield 16, 3) := dk_181 0 16 (dk_at dksX2_init_1 2 rfl rfl)
theorem dX2_init_28 : decode cX2_init 28 = .ok (.aload_n 0, 1) := dk_42 (dk_at dksX2_init_1 5 rfl rfl)
theorem dX2_init_29 : decode cX2_init 29 = .ok (.sipush 600, 3) := dk_17 2 88 (dk_at dksX2_init_1 6 rfl rfl)
theorem dX2_init_32 : decode cX2_init 32 = .ok (.newarray .int, 2) := dk_188_10 (dk_at dksX2_init_1 9 rfl rfl)
theorem dX2_init_34 : decode cX2_init 34 = .ok (.putfield 20, 3) := dk_181 0 20 (dk_at dksX2_init_1 11 rfl rfl)
theorem dX2_init_37 : decode cX2_init 37 = .ok (.aload_n 0, 1) := dk_42 (dk_at dksX2_init_1 14 rfl rfl)
theorem dX2_init_38 : decode cX2_init 38 = .ok (.iconst (-1), 1) := dk_2 (dk_at dksX2_init_1 15 rfl rfl)
theorem dX2_init_39 : decode cX2_init 39 = .ok (.putfield 23, 3) := dk_181 0 23 (dk_at dksX2_init_1 16 rfl rfl)
theorem dX2_init_42 : decode cX2_init 42 = .ok (.aload_n 0, 1) := dk_42 (dk_at dksX2_init_1 19 rfl rfl)
theorem dX2_init_43 : decode cX2_init 43 = .ok (.sipush 200, 3) := dk_17 0 200 (dk_at dksX2_init_1 20 rfl rfl)
theorem dX2_init_46 : decode cX2_init 46 = .ok (.newarray .int, 2) := dk_188_10 (dk_at dksX2_init_2 0 rfl rfl)
theorem dX2_init_48 : decode cX2_init 48 = .ok (.putfield 27, 3) := dk_181 0 27 (dk_at dksX2_init_2 2 rfl rfl)
theorem dX2_init_51 : decode cX2_init 51 = .ok (.return_, 1) := dk_177 (dk_at dksX2_init_2 5 rfl rfl)
abbrev cX2_thrown : ByteArray := prog_10_method_2_code
def yX2_thrown : MethodName := ⟨RX2, "thrown", "()I"⟩
theorem dX2_thrown_0 : decode cX2_thrown 0 = .ok (.aload_n 0, 1) := by decide +kernel
theorem dX2_thrown_1 : decode cX2_thrown 1 = .ok (.getfield 30, 3) := by decide +kernel
theorem dX2_thrown_4 : decode cX2_thrown 4 = .ok (.ireturn, 1) := by decide +kernel
abbrev cX2_append : ByteArray := prog_10_method_36_code
def yX2_append : MethodName := ⟨RX2, "append", "(IIIII)I"⟩
def dkwX2_append_5 : List UInt8 := [16, 20, 96, 181, 0, 119, 42, 180, 0, 119, 172]
abbrev dktX2_append_5 : List UInt8 := dkwX2_append_5 ++ []
def dkwX2_append_4 : List UInt8 := [21, 6, 7, 112, 104, 100, 122, 17, 0, 255, 126, 79, 132, 6, 1, 167, 255, 169, 42, 89, 180, 0, 119]
abbrev dktX2_append_4 : List UInt8 := dkwX2_append_4 ++ dktX2_append_5
def dkwX2_append_3 : List UInt8 := [167, 0, 5, 21, 5, 54, 7, 42, 180, 0, 20, 42, 180, 0, 119, 21, 6, 96, 21, 7, 16, 24, 16, 8]
abbrev dktX2_append_3 : List UInt8 := dkwX2_append_3 ++ dktX2_append_4
def dkwX2_append_2 : List UInt8 := [28, 167, 0, 28, 21, 6, 16, 12, 162, 0, 7, 29, 167, 0, 17, 21, 6, 16, 16, 162, 0, 8, 21, 4]
abbrev dktX2_append_2 : List UInt8 := dkwX2_append_2 ++ dktX2_append_3
def dkwX2_append_1 : List UInt8 := [21, 6, 16, 20, 162, 0, 86, 21, 6, 7, 162, 0, 7, 27, 167, 0, 39, 21, 6, 16, 8, 162, 0, 7]
abbrev dktX2_append_1 : List UInt8 := dkwX2_append_1 ++ dktX2_append_2
def dkwX2_append_0 : List UInt8 := [42, 3, 181, 0, 30, 42, 180, 0, 119, 16, 20, 96, 17, 2, 88, 164, 0, 5, 2, 172, 3, 54, 6]
abbrev dktX2_append_0 : List UInt8 := dkwX2_append_0 ++ dktX2_append_1
theorem dksX2_append_0 : cX2_append.data.toList.drop 0 = dktX2_append_0 := by decide +kernel
theorem dksX2_append_1 : cX2_append.data.toList.drop 23 = dktX2_append_1 := dk_seg dksX2_append_0 23 rfl rfl
theorem dksX2_append_2 : cX2_append.data.toList.drop 47 = dktX2_append_2 := dk_seg dksX2_append_1 24 rfl rfl
theorem dksX2_append_3 : cX2_append.data.toList.drop 71 = dktX2_append_3 := dk_seg dksX2_append_2 24 rfl rfl
theorem dksX2_append_4 : cX2_append.data.toList.drop 95 = dktX2_append_4 := dk_seg dksX2_append_3 24 rfl rfl
theorem dksX2_append_5 : cX2_append.data.toList.drop 118 = dktX2_append_5 := dk_seg dksX2_append_4 23 rfl rfl
theorem dX2_append_0 : decode cX2_append 0 = .ok (.aload_n 0, 1) := dk_42 (dk_at dksX2_append_0 0 rfl rfl)
theorem dX2_append_1 : decode cX2_append 1 = .ok (.iconst 0, 1) := dk_3 (dk_at dksX2_append_0 1 rfl rfl)
theorem dX2_append_2 : decode cX2_append 2 = .ok (.putfield 30, 3) := dk_181 0 30 (dk_at dksX2_append_0 2 rfl rfl)
theorem dX2_append_5 : decode cX2_append 5 = .ok (.aload_n 0, 1) := dk_42 (dk_at dksX2_append_0 5 rfl rfl)
theorem dX2_append_6 : decode cX2_append 6 = .ok (.getfield 119, 3) := dk_180 0 119 (dk_at dksX2_append_0 6 rfl rfl)
theorem dX2_append_9 : decode cX2_append 9 = .ok (.bipush 20, 2) := dk_16 20 (dk_at dksX2_append_0 9 rfl rfl)
theorem dX2_append_11 : decode cX2_append 11 = .ok (.iadd, 1) := dk_96 (dk_at dksX2_append_0 11 rfl rfl)
theorem dX2_append_12 : decode cX2_append 12 = .ok (.sipush 600, 3) := dk_17 2 88 (dk_at dksX2_append_0 12 rfl rfl)
theorem dX2_append_15 : decode cX2_append 15 = .ok (.if_icmp .le 5, 3) := dk_164 0 5 (dk_at dksX2_append_0 15 rfl rfl)
theorem dX2_append_18 : decode cX2_append 18 = .ok (.iconst (-1), 1) := dk_2 (dk_at dksX2_append_0 18 rfl rfl)
theorem dX2_append_19 : decode cX2_append 19 = .ok (.ireturn, 1) := dk_172 (dk_at dksX2_append_0 19 rfl rfl)
theorem dX2_append_20 : decode cX2_append 20 = .ok (.iconst 0, 1) := dk_3 (dk_at dksX2_append_0 20 rfl rfl)
theorem dX2_append_21 : decode cX2_append 21 = .ok (.istore 6, 2) := dk_54 6 (dk_at dksX2_append_0 21 rfl rfl)
theorem dX2_append_23 : decode cX2_append 23 = .ok (.iload 6, 2) := dk_21 6 (dk_at dksX2_append_1 0 rfl rfl)
theorem dX2_append_25 : decode cX2_append 25 = .ok (.bipush 20, 2) := dk_16 20 (dk_at dksX2_append_1 2 rfl rfl)
theorem dX2_append_27 : decode cX2_append 27 = .ok (.if_icmp .ge 86, 3) := dk_162 0 86 (dk_at dksX2_append_1 4 rfl rfl)
theorem dX2_append_30 : decode cX2_append 30 = .ok (.iload 6, 2) := dk_21 6 (dk_at dksX2_append_1 7 rfl rfl)
theorem dX2_append_32 : decode cX2_append 32 = .ok (.iconst 4, 1) := dk_7 (dk_at dksX2_append_1 9 rfl rfl)
theorem dX2_append_33 : decode cX2_append 33 = .ok (.if_icmp .ge 7, 3) := dk_162 0 7 (dk_at dksX2_append_1 10 rfl rfl)
theorem dX2_append_36 : decode cX2_append 36 = .ok (.iload_n 1, 1) := dk_27 (dk_at dksX2_append_1 13 rfl rfl)
theorem dX2_append_37 : decode cX2_append 37 = .ok (.goto 39, 3) := dk_167 0 39 (dk_at dksX2_append_1 14 rfl rfl)
theorem dX2_append_40 : decode cX2_append 40 = .ok (.iload 6, 2) := dk_21 6 (dk_at dksX2_append_1 17 rfl rfl)
theorem dX2_append_42 : decode cX2_append 42 = .ok (.bipush 8, 2) := dk_16 8 (dk_at dksX2_append_1 19 rfl rfl)
theorem dX2_append_44 : decode cX2_append 44 = .ok (.if_icmp .ge 7, 3) := dk_162 0 7 (dk_at dksX2_append_1 21 rfl rfl)
theorem dX2_append_47 : decode cX2_append 47 = .ok (.iload_n 2, 1) := dk_28 (dk_at dksX2_append_2 0 rfl rfl)
theorem dX2_append_48 : decode cX2_append 48 = .ok (.goto 28, 3) := dk_167 0 28 (dk_at dksX2_append_2 1 rfl rfl)
theorem dX2_append_51 : decode cX2_append 51 = .ok (.iload 6, 2) := dk_21 6 (dk_at dksX2_append_2 4 rfl rfl)
theorem dX2_append_53 : decode cX2_append 53 = .ok (.bipush 12, 2) := dk_16 12 (dk_at dksX2_append_2 6 rfl rfl)
theorem dX2_append_55 : decode cX2_append 55 = .ok (.if_icmp .ge 7, 3) := dk_162 0 7 (dk_at dksX2_append_2 8 rfl rfl)
theorem dX2_append_58 : decode cX2_append 58 = .ok (.iload_n 3, 1) := dk_29 (dk_at dksX2_append_2 11 rfl rfl)
theorem dX2_append_59 : decode cX2_append 59 = .ok (.goto 17, 3) := dk_167 0 17 (dk_at dksX2_append_2 12 rfl rfl)
theorem dX2_append_62 : decode cX2_append 62 = .ok (.iload 6, 2) := dk_21 6 (dk_at dksX2_append_2 15 rfl rfl)
theorem dX2_append_64 : decode cX2_append 64 = .ok (.bipush 16, 2) := dk_16 16 (dk_at dksX2_append_2 17 rfl rfl)
theorem dX2_append_66 : decode cX2_append 66 = .ok (.if_icmp .ge 8, 3) := dk_162 0 8 (dk_at dksX2_append_2 19 rfl rfl)
theorem dX2_append_69 : decode cX2_append 69 = .ok (.iload 4, 2) := dk_21 4 (dk_at dksX2_append_2 22 rfl rfl)
theorem dX2_append_71 : decode cX2_append 71 = .ok (.goto 5, 3) := dk_167 0 5 (dk_at dksX2_append_3 0 rfl rfl)
theorem dX2_append_74 : decode cX2_append 74 = .ok (.iload 5, 2) := dk_21 5 (dk_at dksX2_append_3 3 rfl rfl)
theorem dX2_append_76 : decode cX2_append 76 = .ok (.istore 7, 2) := dk_54 7 (dk_at dksX2_append_3 5 rfl rfl)
theorem dX2_append_78 : decode cX2_append 78 = .ok (.aload_n 0, 1) := dk_42 (dk_at dksX2_append_3 7 rfl rfl)
theorem dX2_append_79 : decode cX2_append 79 = .ok (.getfield 20, 3) := dk_180 0 20 (dk_at dksX2_append_3 8 rfl rfl)
theorem dX2_append_82 : decode cX2_append 82 = .ok (.aload_n 0, 1) := dk_42 (dk_at dksX2_append_3 11 rfl rfl)
theorem dX2_append_83 : decode cX2_append 83 = .ok (.getfield 119, 3) := dk_180 0 119 (dk_at dksX2_append_3 12 rfl rfl)
theorem dX2_append_86 : decode cX2_append 86 = .ok (.iload 6, 2) := dk_21 6 (dk_at dksX2_append_3 15 rfl rfl)
theorem dX2_append_88 : decode cX2_append 88 = .ok (.iadd, 1) := dk_96 (dk_at dksX2_append_3 17 rfl rfl)
theorem dX2_append_89 : decode cX2_append 89 = .ok (.iload 7, 2) := dk_21 7 (dk_at dksX2_append_3 18 rfl rfl)
theorem dX2_append_91 : decode cX2_append 91 = .ok (.bipush 24, 2) := dk_16 24 (dk_at dksX2_append_3 20 rfl rfl)
theorem dX2_append_93 : decode cX2_append 93 = .ok (.bipush 8, 2) := dk_16 8 (dk_at dksX2_append_3 22 rfl rfl)
theorem dX2_append_95 : decode cX2_append 95 = .ok (.iload 6, 2) := dk_21 6 (dk_at dksX2_append_4 0 rfl rfl)
theorem dX2_append_97 : decode cX2_append 97 = .ok (.iconst 4, 1) := dk_7 (dk_at dksX2_append_4 2 rfl rfl)
theorem dX2_append_98 : decode cX2_append 98 = .ok (.irem, 1) := dk_112 (dk_at dksX2_append_4 3 rfl rfl)
theorem dX2_append_99 : decode cX2_append 99 = .ok (.imul, 1) := dk_104 (dk_at dksX2_append_4 4 rfl rfl)
theorem dX2_append_100 : decode cX2_append 100 = .ok (.isub, 1) := dk_100 (dk_at dksX2_append_4 5 rfl rfl)
theorem dX2_append_101 : decode cX2_append 101 = .ok (.ishr, 1) := dk_122 (dk_at dksX2_append_4 6 rfl rfl)
theorem dX2_append_102 : decode cX2_append 102 = .ok (.sipush 255, 3) := dk_17 0 255 (dk_at dksX2_append_4 7 rfl rfl)
theorem dX2_append_105 : decode cX2_append 105 = .ok (.iand, 1) := dk_126 (dk_at dksX2_append_4 10 rfl rfl)
theorem dX2_append_106 : decode cX2_append 106 = .ok (.iastore, 1) := dk_79 (dk_at dksX2_append_4 11 rfl rfl)
theorem dX2_append_107 : decode cX2_append 107 = .ok (.iinc 6 1, 3) := dk_132 6 1 (dk_at dksX2_append_4 12 rfl rfl)
theorem dX2_append_110 : decode cX2_append 110 = .ok (.goto (-87), 3) := dk_167 255 169 (dk_at dksX2_append_4 15 rfl rfl)
theorem dX2_append_113 : decode cX2_append 113 = .ok (.aload_n 0, 1) := dk_42 (dk_at dksX2_append_4 18 rfl rfl)
theorem dX2_append_114 : decode cX2_append 114 = .ok (.dup, 1) := dk_89 (dk_at dksX2_append_4 19 rfl rfl)
theorem dX2_append_115 : decode cX2_append 115 = .ok (.getfield 119, 3) := dk_180 0 119 (dk_at dksX2_append_4 20 rfl rfl)
theorem dX2_append_118 : decode cX2_append 118 = .ok (.bipush 20, 2) := dk_16 20 (dk_at dksX2_append_5 0 rfl rfl)
theorem dX2_append_120 : decode cX2_append 120 = .ok (.iadd, 1) := dk_96 (dk_at dksX2_append_5 2 rfl rfl)
theorem dX2_append_121 : decode cX2_append 121 = .ok (.putfield 119, 3) := dk_181 0 119 (dk_at dksX2_append_5 3 rfl rfl)
theorem dX2_append_124 : decode cX2_append 124 = .ok (.aload_n 0, 1) := dk_42 (dk_at dksX2_append_5 6 rfl rfl)
theorem dX2_append_125 : decode cX2_append 125 = .ok (.getfield 119, 3) := dk_180 0 119 (dk_at dksX2_append_5 7 rfl rfl)
theorem dX2_append_128 : decode cX2_append 128 = .ok (.ireturn, 1) := dk_172 (dk_at dksX2_append_5 10 rfl rfl)
abbrev cX2_buffered : ByteArray := prog_10_method_37_code
def yX2_buffered : MethodName := ⟨RX2, "buffered", "()I"⟩
def dkwX2_buffered_0 : List UInt8 := [42, 3, 181, 0, 30, 42, 180, 0, 119, 172]
abbrev dktX2_buffered_0 : List UInt8 := dkwX2_buffered_0 ++ []
theorem dksX2_buffered_0 : cX2_buffered.data.toList.drop 0 = dktX2_buffered_0 := by decide +kernel
theorem dX2_buffered_0 : decode cX2_buffered 0 = .ok (.aload_n 0, 1) := dk_42 (dk_at dksX2_buffered_0 0 rfl rfl)
theorem dX2_buffered_1 : decode cX2_buffered 1 = .ok (.iconst 0, 1) := dk_3 (dk_at dksX2_buffered_0 1 rfl rfl)
theorem dX2_buffered_2 : decode cX2_buffered 2 = .ok (.putfield 30, 3) := dk_181 0 30 (dk_at dksX2_buffered_0 2 rfl rfl)
theorem dX2_buffered_5 : decode cX2_buffered 5 = .ok (.aload_n 0, 1) := dk_42 (dk_at dksX2_buffered_0 5 rfl rfl)
theorem dX2_buffered_6 : decode cX2_buffered 6 = .ok (.getfield 119, 3) := dk_180 0 119 (dk_at dksX2_buffered_0 6 rfl rfl)
theorem dX2_buffered_9 : decode cX2_buffered 9 = .ok (.ireturn, 1) := dk_172 (dk_at dksX2_buffered_0 9 rfl rfl)
abbrev cX2_parseError : ByteArray := prog_10_method_38_code
def yX2_parseError : MethodName := ⟨RX2, "parseError", "()I"⟩
def dkwX2_parseError_0 : List UInt8 := [42, 3, 181, 0, 30, 42, 180, 0, 122, 172]
abbrev dktX2_parseError_0 : List UInt8 := dkwX2_parseError_0 ++ []
theorem dksX2_parseError_0 : cX2_parseError.data.toList.drop 0 = dktX2_parseError_0 := by decide +kernel
theorem dX2_parseError_0 : decode cX2_parseError 0 = .ok (.aload_n 0, 1) := dk_42 (dk_at dksX2_parseError_0 0 rfl rfl)
theorem dX2_parseError_1 : decode cX2_parseError 1 = .ok (.iconst 0, 1) := dk_3 (dk_at dksX2_parseError_0 1 rfl rfl)
theorem dX2_parseError_2 : decode cX2_parseError 2 = .ok (.putfield 30, 3) := dk_181 0 30 (dk_at dksX2_parseError_0 2 rfl rfl)
theorem dX2_parseError_5 : decode cX2_parseError 5 = .ok (.aload_n 0, 1) := dk_42 (dk_at dksX2_parseError_0 5 rfl rfl)
theorem dX2_parseError_6 : decode cX2_parseError 6 = .ok (.getfield 122, 3) := dk_180 0 122 (dk_at dksX2_parseError_0 6 rfl rfl)
theorem dX2_parseError_9 : decode cX2_parseError 9 = .ok (.ireturn, 1) := dk_172 (dk_at dksX2_parseError_0 9 rfl rfl)
abbrev cX2_errorPosition : ByteArray := prog_10_method_39_code
def yX2_errorPosition : MethodName := ⟨RX2, "errorPosition", "()I"⟩
def dkwX2_errorPosition_0 : List UInt8 := [42, 3, 181, 0, 30, 42, 180, 0, 23, 172]
abbrev dktX2_errorPosition_0 : List UInt8 := dkwX2_errorPosition_0 ++ []
theorem dksX2_errorPosition_0 : cX2_errorPosition.data.toList.drop 0 = dktX2_errorPosition_0 := by decide +kernel
theorem dX2_errorPosition_0 : decode cX2_errorPosition 0 = .ok (.aload_n 0, 1) := dk_42 (dk_at dksX2_errorPosition_0 0 rfl rfl)
theorem dX2_errorPosition_1 : decode cX2_errorPosition 1 = .ok (.iconst 0, 1) := dk_3 (dk_at dksX2_errorPosition_0 1 rfl rfl)
theorem dX2_errorPosition_2 : decode cX2_errorPosition 2 = .ok (.putfield 30, 3) := dk_181 0 30 (dk_at dksX2_errorPosition_0 2 rfl rfl)
theorem dX2_errorPosition_5 : decode cX2_errorPosition 5 = .ok (.aload_n 0, 1) := dk_42 (dk_at dksX2_errorPosition_0 5 rfl rfl)
theorem dX2_errorPosition_6 : decode cX2_errorPosition 6 = .ok (.getfield 23, 3) := dk_180 0 23 (dk_at dksX2_errorPosition_0 6 rfl rfl)
theorem dX2_errorPosition_9 : decode cX2_errorPosition 9 = .ok (.ireturn, 1) := dk_172 (dk_at dksX2_errorPosition_0 9 rfl rfl)
abbrev cX2_load : ByteArray := prog_10_method_58_code
def yX2_load : MethodName := ⟨RX2, "load", "(I)I"⟩
def dkwX2_load_6 : List UInt8 := [180, 0, 16, 4, 3, 84, 42, 182, 0, 45, 172]
abbrev dktX2_load_6 : List UInt8 := dkwX2_load_6 ++ []
def dkwX2_load_5 : List UInt8 := [3, 182, 0, 250, 172, 42, 4, 181, 0, 33, 42, 3, 181, 0, 253, 42, 180, 0, 16, 3, 3, 84, 42]
abbrev dktX2_load_5 : List UInt8 := dkwX2_load_5 ++ dktX2_load_6
def dkwX2_load_4 : List UInt8 := [181, 0, 23, 42, 42, 180, 0, 149, 153, 0, 7, 4, 167, 0, 4, 3, 5, 182, 0, 37, 153, 0, 9, 42]
abbrev dktX2_load_4 : List UInt8 := dkwX2_load_4 ++ dktX2_load_5
def dkwX2_load_3 : List UInt8 := [42, 180, 0, 149, 181, 0, 122, 42, 42, 180, 0, 149, 154, 0, 7, 2, 167, 0, 7, 42, 180, 0, 152]
abbrev dktX2_load_3 : List UInt8 := dkwX2_load_3 ++ dktX2_load_4
def dkwX2_load_2 : List UInt8 := [42, 3, 181, 0, 128, 42, 3, 181, 0, 149, 42, 2, 181, 0, 152, 42, 182, 0, 159, 42, 182, 0, 247, 42]
abbrev dktX2_load_2 : List UInt8 := dkwX2_load_2 ++ dktX2_load_3
def dkwX2_load_1 : List UInt8 := [3, 4, 182, 0, 37, 153, 0, 5, 3, 172, 42, 182, 0, 244, 42, 3, 181, 0, 119, 42, 27, 181, 0, 125]
abbrev dktX2_load_1 : List UInt8 := dkwX2_load_1 ++ dktX2_load_2
def dkwX2_load_0 : List UInt8 := [42, 3, 181, 0, 30, 42, 27, 133, 9, 42, 180, 0, 119, 133, 184, 0, 170, 154, 0, 7, 4, 167, 0, 4]
abbrev dktX2_load_0 : List UInt8 := dkwX2_load_0 ++ dktX2_load_1
theorem dksX2_load_0 : cX2_load.data.toList.drop 0 = dktX2_load_0 := by decide +kernel
theorem dksX2_load_1 : cX2_load.data.toList.drop 24 = dktX2_load_1 := dk_seg dksX2_load_0 24 rfl rfl
theorem dksX2_load_2 : cX2_load.data.toList.drop 48 = dktX2_load_2 := dk_seg dksX2_load_1 24 rfl rfl
theorem dksX2_load_3 : cX2_load.data.toList.drop 72 = dktX2_load_3 := dk_seg dksX2_load_2 24 rfl rfl
theorem dksX2_load_4 : cX2_load.data.toList.drop 95 = dktX2_load_4 := dk_seg dksX2_load_3 23 rfl rfl
theorem dksX2_load_5 : cX2_load.data.toList.drop 119 = dktX2_load_5 := dk_seg dksX2_load_4 24 rfl rfl
theorem dksX2_load_6 : cX2_load.data.toList.drop 142 = dktX2_load_6 := dk_seg dksX2_load_5 23 rfl rfl
theorem dX2_load_0 : decode cX2_load 0 = .ok (.aload_n 0, 1) := dk_42 (dk_at dksX2_load_0 0 rfl rfl)
theorem dX2_load_1 : decode cX2_load 1 = .ok (.iconst 0, 1) := dk_3 (dk_at dksX2_load_0 1 rfl rfl)
theorem dX2_load_2 : decode cX2_load 2 = .ok (.putfield 30, 3) := dk_181 0 30 (dk_at dksX2_load_0 2 rfl rfl)
theorem dX2_load_5 : decode cX2_load 5 = .ok (.aload_n 0, 1) := dk_42 (dk_at dksX2_load_0 5 rfl rfl)
theorem dX2_load_6 : decode cX2_load 6 = .ok (.iload_n 1, 1) := dk_27 (dk_at dksX2_load_0 6 rfl rfl)
theorem dX2_load_7 : decode cX2_load 7 = .ok (.i2l, 1) := dk_133 (dk_at dksX2_load_0 7 rfl rfl)
theorem dX2_load_8 : decode cX2_load 8 = .ok (.lconst 0, 1) := dk_9 (dk_at dksX2_load_0 8 rfl rfl)
theorem dX2_load_9 : decode cX2_load 9 = .ok (.aload_n 0, 1) := dk_42 (dk_at dksX2_load_0 9 rfl rfl)
theorem dX2_load_10 : decode cX2_load 10 = .ok (.getfield 119, 3) := dk_180 0 119 (dk_at dksX2_load_0 10 rfl rfl)
theorem dX2_load_13 : decode cX2_load 13 = .ok (.i2l, 1) := dk_133 (dk_at dksX2_load_0 13 rfl rfl)
theorem dX2_load_14 : decode cX2_load 14 = .ok (.invokestatic 170, 3) := dk_184 0 170 (dk_at dksX2_load_0 14 rfl rfl)
theorem dX2_load_17 : decode cX2_load 17 = .ok (.ifCond .ne 7, 3) := dk_154 0 7 (dk_at dksX2_load_0 17 rfl rfl)
theorem dX2_load_20 : decode cX2_load 20 = .ok (.iconst 1, 1) := dk_4 (dk_at dksX2_load_0 20 rfl rfl)
theorem dX2_load_21 : decode cX2_load 21 = .ok (.goto 4, 3) := dk_167 0 4 (dk_at dksX2_load_0 21 rfl rfl)
theorem dX2_load_24 : decode cX2_load 24 = .ok (.iconst 0, 1) := dk_3 (dk_at dksX2_load_1 0 rfl rfl)
theorem dX2_load_25 : decode cX2_load 25 = .ok (.iconst 1, 1) := dk_4 (dk_at dksX2_load_1 1 rfl rfl)
theorem dX2_load_26 : decode cX2_load 26 = .ok (.invokevirtual 37, 3) := dk_182 0 37 (dk_at dksX2_load_1 2 rfl rfl)
theorem dX2_load_29 : decode cX2_load 29 = .ok (.ifCond .eq 5, 3) := dk_153 0 5 (dk_at dksX2_load_1 5 rfl rfl)
theorem dX2_load_32 : decode cX2_load 32 = .ok (.iconst 0, 1) := dk_3 (dk_at dksX2_load_1 8 rfl rfl)
theorem dX2_load_33 : decode cX2_load 33 = .ok (.ireturn, 1) := dk_172 (dk_at dksX2_load_1 9 rfl rfl)
theorem dX2_load_34 : decode cX2_load 34 = .ok (.aload_n 0, 1) := dk_42 (dk_at dksX2_load_1 10 rfl rfl)
theorem dX2_load_35 : decode cX2_load 35 = .ok (.invokevirtual 244, 3) := dk_182 0 244 (dk_at dksX2_load_1 11 rfl rfl)
theorem dX2_load_38 : decode cX2_load 38 = .ok (.aload_n 0, 1) := dk_42 (dk_at dksX2_load_1 14 rfl rfl)
theorem dX2_load_39 : decode cX2_load 39 = .ok (.iconst 0, 1) := dk_3 (dk_at dksX2_load_1 15 rfl rfl)
theorem dX2_load_40 : decode cX2_load 40 = .ok (.putfield 119, 3) := dk_181 0 119 (dk_at dksX2_load_1 16 rfl rfl)
theorem dX2_load_43 : decode cX2_load 43 = .ok (.aload_n 0, 1) := dk_42 (dk_at dksX2_load_1 19 rfl rfl)
theorem dX2_load_44 : decode cX2_load 44 = .ok (.iload_n 1, 1) := dk_27 (dk_at dksX2_load_1 20 rfl rfl)
theorem dX2_load_45 : decode cX2_load 45 = .ok (.putfield 125, 3) := dk_181 0 125 (dk_at dksX2_load_1 21 rfl rfl)
theorem dX2_load_48 : decode cX2_load 48 = .ok (.aload_n 0, 1) := dk_42 (dk_at dksX2_load_2 0 rfl rfl)
theorem dX2_load_49 : decode cX2_load 49 = .ok (.iconst 0, 1) := dk_3 (dk_at dksX2_load_2 1 rfl rfl)
theorem dX2_load_50 : decode cX2_load 50 = .ok (.putfield 128, 3) := dk_181 0 128 (dk_at dksX2_load_2 2 rfl rfl)
theorem dX2_load_53 : decode cX2_load 53 = .ok (.aload_n 0, 1) := dk_42 (dk_at dksX2_load_2 5 rfl rfl)
theorem dX2_load_54 : decode cX2_load 54 = .ok (.iconst 0, 1) := dk_3 (dk_at dksX2_load_2 6 rfl rfl)
theorem dX2_load_55 : decode cX2_load 55 = .ok (.putfield 149, 3) := dk_181 0 149 (dk_at dksX2_load_2 7 rfl rfl)
theorem dX2_load_58 : decode cX2_load 58 = .ok (.aload_n 0, 1) := dk_42 (dk_at dksX2_load_2 10 rfl rfl)
theorem dX2_load_59 : decode cX2_load 59 = .ok (.iconst (-1), 1) := dk_2 (dk_at dksX2_load_2 11 rfl rfl)
theorem dX2_load_60 : decode cX2_load 60 = .ok (.putfield 152, 3) := dk_181 0 152 (dk_at dksX2_load_2 12 rfl rfl)
theorem dX2_load_63 : decode cX2_load 63 = .ok (.aload_n 0, 1) := dk_42 (dk_at dksX2_load_2 15 rfl rfl)
theorem dX2_load_64 : decode cX2_load 64 = .ok (.invokevirtual 159, 3) := dk_182 0 159 (dk_at dksX2_load_2 16 rfl rfl)
theorem dX2_load_67 : decode cX2_load 67 = .ok (.aload_n 0, 1) := dk_42 (dk_at dksX2_load_2 19 rfl rfl)
theorem dX2_load_68 : decode cX2_load 68 = .ok (.invokevirtual 247, 3) := dk_182 0 247 (dk_at dksX2_load_2 20 rfl rfl)
theorem dX2_load_71 : decode cX2_load 71 = .ok (.aload_n 0, 1) := dk_42 (dk_at dksX2_load_2 23 rfl rfl)
theorem dX2_load_72 : decode cX2_load 72 = .ok (.aload_n 0, 1) := dk_42 (dk_at dksX2_load_3 0 rfl rfl)
theorem dX2_load_73 : decode cX2_load 73 = .ok (.getfield 149, 3) := dk_180 0 149 (dk_at dksX2_load_3 1 rfl rfl)
theorem dX2_load_76 : decode cX2_load 76 = .ok (.putfield 122, 3) := dk_181 0 122 (dk_at dksX2_load_3 4 rfl rfl)
theorem dX2_load_79 : decode cX2_load 79 = .ok (.aload_n 0, 1) := dk_42 (dk_at dksX2_load_3 7 rfl rfl)
theorem dX2_load_80 : decode cX2_load 80 = .ok (.aload_n 0, 1) := dk_42 (dk_at dksX2_load_3 8 rfl rfl)
theorem dX2_load_81 : decode cX2_load 81 = .ok (.getfield 149, 3) := dk_180 0 149 (dk_at dksX2_load_3 9 rfl rfl)
theorem dX2_load_84 : decode cX2_load 84 = .ok (.ifCond .ne 7, 3) := dk_154 0 7 (dk_at dksX2_load_3 12 rfl rfl)
theorem dX2_load_87 : decode cX2_load 87 = .ok (.iconst (-1), 1) := dk_2 (dk_at dksX2_load_3 15 rfl rfl)
theorem dX2_load_88 : decode cX2_load 88 = .ok (.goto 7, 3) := dk_167 0 7 (dk_at dksX2_load_3 16 rfl rfl)
theorem dX2_load_91 : decode cX2_load 91 = .ok (.aload_n 0, 1) := dk_42 (dk_at dksX2_load_3 19 rfl rfl)
theorem dX2_load_92 : decode cX2_load 92 = .ok (.getfield 152, 3) := dk_180 0 152 (dk_at dksX2_load_3 20 rfl rfl)
theorem dX2_load_95 : decode cX2_load 95 = .ok (.putfield 23, 3) := dk_181 0 23 (dk_at dksX2_load_4 0 rfl rfl)
theorem dX2_load_98 : decode cX2_load 98 = .ok (.aload_n 0, 1) := dk_42 (dk_at dksX2_load_4 3 rfl rfl)
theorem dX2_load_99 : decode cX2_load 99 = .ok (.aload_n 0, 1) := dk_42 (dk_at dksX2_load_4 4 rfl rfl)
theorem dX2_load_100 : decode cX2_load 100 = .ok (.getfield 149, 3) := dk_180 0 149 (dk_at dksX2_load_4 5 rfl rfl)
theorem dX2_load_103 : decode cX2_load 103 = .ok (.ifCond .eq 7, 3) := dk_153 0 7 (dk_at dksX2_load_4 8 rfl rfl)
theorem dX2_load_106 : decode cX2_load 106 = .ok (.iconst 1, 1) := dk_4 (dk_at dksX2_load_4 11 rfl rfl)
theorem dX2_load_107 : decode cX2_load 107 = .ok (.goto 4, 3) := dk_167 0 4 (dk_at dksX2_load_4 12 rfl rfl)
theorem dX2_load_110 : decode cX2_load 110 = .ok (.iconst 0, 1) := dk_3 (dk_at dksX2_load_4 15 rfl rfl)
theorem dX2_load_111 : decode cX2_load 111 = .ok (.iconst 2, 1) := dk_5 (dk_at dksX2_load_4 16 rfl rfl)
theorem dX2_load_112 : decode cX2_load 112 = .ok (.invokevirtual 37, 3) := dk_182 0 37 (dk_at dksX2_load_4 17 rfl rfl)
theorem dX2_load_115 : decode cX2_load 115 = .ok (.ifCond .eq 9, 3) := dk_153 0 9 (dk_at dksX2_load_4 20 rfl rfl)
theorem dX2_load_118 : decode cX2_load 118 = .ok (.aload_n 0, 1) := dk_42 (dk_at dksX2_load_4 23 rfl rfl)
theorem dX2_load_119 : decode cX2_load 119 = .ok (.iconst 0, 1) := dk_3 (dk_at dksX2_load_5 0 rfl rfl)
theorem dX2_load_120 : decode cX2_load 120 = .ok (.invokevirtual 250, 3) := dk_182 0 250 (dk_at dksX2_load_5 1 rfl rfl)
theorem dX2_load_123 : decode cX2_load 123 = .ok (.ireturn, 1) := dk_172 (dk_at dksX2_load_5 4 rfl rfl)
theorem dX2_load_124 : decode cX2_load 124 = .ok (.aload_n 0, 1) := dk_42 (dk_at dksX2_load_5 5 rfl rfl)
theorem dX2_load_125 : decode cX2_load 125 = .ok (.iconst 1, 1) := dk_4 (dk_at dksX2_load_5 6 rfl rfl)
theorem dX2_load_126 : decode cX2_load 126 = .ok (.putfield 33, 3) := dk_181 0 33 (dk_at dksX2_load_5 7 rfl rfl)
theorem dX2_load_129 : decode cX2_load 129 = .ok (.aload_n 0, 1) := dk_42 (dk_at dksX2_load_5 10 rfl rfl)
theorem dX2_load_130 : decode cX2_load 130 = .ok (.iconst 0, 1) := dk_3 (dk_at dksX2_load_5 11 rfl rfl)
theorem dX2_load_131 : decode cX2_load 131 = .ok (.putfield 253, 3) := dk_181 0 253 (dk_at dksX2_load_5 12 rfl rfl)
theorem dX2_load_134 : decode cX2_load 134 = .ok (.aload_n 0, 1) := dk_42 (dk_at dksX2_load_5 15 rfl rfl)
theorem dX2_load_135 : decode cX2_load 135 = .ok (.getfield 16, 3) := dk_180 0 16 (dk_at dksX2_load_5 16 rfl rfl)
theorem dX2_load_138 : decode cX2_load 138 = .ok (.iconst 0, 1) := dk_3 (dk_at dksX2_load_5 19 rfl rfl)
theorem dX2_load_139 : decode cX2_load 139 = .ok (.iconst 0, 1) := dk_3 (dk_at dksX2_load_5 20 rfl rfl)
theorem dX2_load_140 : decode cX2_load 140 = .ok (.bastore, 1) := dk_84 (dk_at dksX2_load_5 21 rfl rfl)
theorem dX2_load_141 : decode cX2_load 141 = .ok (.aload_n 0, 1) := dk_42 (dk_at dksX2_load_5 22 rfl rfl)
theorem dX2_load_142 : decode cX2_load 142 = .ok (.getfield 16, 3) := dk_180 0 16 (dk_at dksX2_load_6 0 rfl rfl)
theorem dX2_load_145 : decode cX2_load 145 = .ok (.iconst 1, 1) := dk_4 (dk_at dksX2_load_6 3 rfl rfl)
theorem dX2_load_146 : decode cX2_load 146 = .ok (.iconst 0, 1) := dk_3 (dk_at dksX2_load_6 4 rfl rfl)
theorem dX2_load_147 : decode cX2_load 147 = .ok (.bastore, 1) := dk_84 (dk_at dksX2_load_6 5 rfl rfl)
theorem dX2_load_148 : decode cX2_load 148 = .ok (.aload_n 0, 1) := dk_42 (dk_at dksX2_load_6 6 rfl rfl)
theorem dX2_load_149 : decode cX2_load 149 = .ok (.invokevirtual 45, 3) := dk_182 0 45 (dk_at dksX2_load_6 7 rfl rfl)
theorem dX2_load_152 : decode cX2_load 152 = .ok (.ireturn, 1) := dk_172 (dk_at dksX2_load_6 10 rfl rfl)
abbrev cX2_in : ByteArray := prog_10_method_3_code
def yX2_in : MethodName := ⟨RX2, "in", "(JJJ)Z"⟩
def dkwX2_in_0 : List UInt8 := [30, 32, 148, 155, 0, 14, 30, 22, 4, 148, 157, 0, 7, 4, 167, 0, 4, 3, 172]
abbrev dktX2_in_0 : List UInt8 := dkwX2_in_0 ++ []
theorem dksX2_in_0 : cX2_in.data.toList.drop 0 = dktX2_in_0 := by decide +kernel
theorem dX2_in_0 : decode cX2_in 0 = .ok (.lload_n 0, 1) := dk_30 (dk_at dksX2_in_0 0 rfl rfl)
theorem dX2_in_1 : decode cX2_in 1 = .ok (.lload_n 2, 1) := dk_32 (dk_at dksX2_in_0 1 rfl rfl)
theorem dX2_in_2 : decode cX2_in 2 = .ok (.lcmp, 1) := dk_148 (dk_at dksX2_in_0 2 rfl rfl)
theorem dX2_in_3 : decode cX2_in 3 = .ok (.ifCond .lt 14, 3) := dk_155 0 14 (dk_at dksX2_in_0 3 rfl rfl)
theorem dX2_in_6 : decode cX2_in 6 = .ok (.lload_n 0, 1) := dk_30 (dk_at dksX2_in_0 6 rfl rfl)
theorem dX2_in_7 : decode cX2_in 7 = .ok (.lload 4, 2) := dk_22 4 (dk_at dksX2_in_0 7 rfl rfl)
theorem dX2_in_9 : decode cX2_in 9 = .ok (.lcmp, 1) := dk_148 (dk_at dksX2_in_0 9 rfl rfl)
theorem dX2_in_10 : decode cX2_in 10 = .ok (.ifCond .gt 7, 3) := dk_157 0 7 (dk_at dksX2_in_0 10 rfl rfl)
theorem dX2_in_13 : decode cX2_in 13 = .ok (.iconst 1, 1) := dk_4 (dk_at dksX2_in_0 13 rfl rfl)
theorem dX2_in_14 : decode cX2_in 14 = .ok (.goto 4, 3) := dk_167 0 4 (dk_at dksX2_in_0 14 rfl rfl)
theorem dX2_in_17 : decode cX2_in 17 = .ok (.iconst 0, 1) := dk_3 (dk_at dksX2_in_0 17 rfl rfl)
theorem dX2_in_18 : decode cX2_in 18 = .ok (.ireturn, 1) := dk_172 (dk_at dksX2_in_0 18 rfl rfl)
abbrev cX2_refuse : ByteArray := prog_10_method_5_code
def yX2_refuse : MethodName := ⟨RX2, "refuse", "(ZI)Z"⟩
def dkwX2_refuse_1 : List UInt8 := [167, 0, 4, 3, 172]
abbrev dktX2_refuse_1 : List UInt8 := dkwX2_refuse_1 ++ []
def dkwX2_refuse_0 : List UInt8 := [42, 180, 0, 30, 154, 0, 12, 27, 153, 0, 8, 42, 28, 181, 0, 30, 42, 180, 0, 30, 153, 0, 7, 4]
abbrev dktX2_refuse_0 : List UInt8 := dkwX2_refuse_0 ++ dktX2_refuse_1
theorem dksX2_refuse_0 : cX2_refuse.data.toList.drop 0 = dktX2_refuse_0 := by decide +kernel
theorem dksX2_refuse_1 : cX2_refuse.data.toList.drop 24 = dktX2_refuse_1 := dk_seg dksX2_refuse_0 24 rfl rfl
theorem dX2_refuse_0 : decode cX2_refuse 0 = .ok (.aload_n 0, 1) := dk_42 (dk_at dksX2_refuse_0 0 rfl rfl)
theorem dX2_refuse_1 : decode cX2_refuse 1 = .ok (.getfield 30, 3) := dk_180 0 30 (dk_at dksX2_refuse_0 1 rfl rfl)
theorem dX2_refuse_4 : decode cX2_refuse 4 = .ok (.ifCond .ne 12, 3) := dk_154 0 12 (dk_at dksX2_refuse_0 4 rfl rfl)
theorem dX2_refuse_7 : decode cX2_refuse 7 = .ok (.iload_n 1, 1) := dk_27 (dk_at dksX2_refuse_0 7 rfl rfl)
theorem dX2_refuse_8 : decode cX2_refuse 8 = .ok (.ifCond .eq 8, 3) := dk_153 0 8 (dk_at dksX2_refuse_0 8 rfl rfl)
theorem dX2_refuse_11 : decode cX2_refuse 11 = .ok (.aload_n 0, 1) := dk_42 (dk_at dksX2_refuse_0 11 rfl rfl)
theorem dX2_refuse_12 : decode cX2_refuse 12 = .ok (.iload_n 2, 1) := dk_28 (dk_at dksX2_refuse_0 12 rfl rfl)
theorem dX2_refuse_13 : decode cX2_refuse 13 = .ok (.putfield 30, 3) := dk_181 0 30 (dk_at dksX2_refuse_0 13 rfl rfl)
theorem dX2_refuse_16 : decode cX2_refuse 16 = .ok (.aload_n 0, 1) := dk_42 (dk_at dksX2_refuse_0 16 rfl rfl)
theorem dX2_refuse_17 : decode cX2_refuse 17 = .ok (.getfield 30, 3) := dk_180 0 30 (dk_at dksX2_refuse_0 17 rfl rfl)
theorem dX2_refuse_20 : decode cX2_refuse 20 = .ok (.ifCond .eq 7, 3) := dk_153 0 7 (dk_at dksX2_refuse_0 20 rfl rfl)
theorem dX2_refuse_23 : decode cX2_refuse 23 = .ok (.iconst 1, 1) := dk_4 (dk_at dksX2_refuse_0 23 rfl rfl)
theorem dX2_refuse_24 : decode cX2_refuse 24 = .ok (.goto 4, 3) := dk_167 0 4 (dk_at dksX2_refuse_1 0 rfl rfl)
theorem dX2_refuse_27 : decode cX2_refuse 27 = .ok (.iconst 0, 1) := dk_3 (dk_at dksX2_refuse_1 3 rfl rfl)
theorem dX2_refuse_28 : decode cX2_refuse 28 = .ok (.ireturn, 1) := dk_172 (dk_at dksX2_refuse_1 4 rfl rfl)
abbrev cX2_laysAside : ByteArray := prog_10_method_8_code
def yX2_laysAside : MethodName := ⟨RX2, "laysAside", "()V"⟩
def dkwX2_laysAside_0 : List UInt8 := [42, 180, 0, 7, 3, 42, 180, 0, 13, 17, 4, 106, 184, 0, 41, 177]
abbrev dktX2_laysAside_0 : List UInt8 := dkwX2_laysAside_0 ++ []
theorem dksX2_laysAside_0 : cX2_laysAside.data.toList.drop 0 = dktX2_laysAside_0 := by decide +kernel
theorem dX2_laysAside_0 : decode cX2_laysAside 0 = .ok (.aload_n 0, 1) := dk_42 (dk_at dksX2_laysAside_0 0 rfl rfl)
theorem dX2_laysAside_1 : decode cX2_laysAside 1 = .ok (.getfield 7, 3) := dk_180 0 7 (dk_at dksX2_laysAside_0 1 rfl rfl)
theorem dX2_laysAside_4 : decode cX2_laysAside 4 = .ok (.iconst 0, 1) := dk_3 (dk_at dksX2_laysAside_0 4 rfl rfl)
theorem dX2_laysAside_5 : decode cX2_laysAside 5 = .ok (.aload_n 0, 1) := dk_42 (dk_at dksX2_laysAside_0 5 rfl rfl)
theorem dX2_laysAside_6 : decode cX2_laysAside 6 = .ok (.getfield 13, 3) := dk_180 0 13 (dk_at dksX2_laysAside_0 6 rfl rfl)
theorem dX2_laysAside_9 : decode cX2_laysAside 9 = .ok (.sipush 1130, 3) := dk_17 4 106 (dk_at dksX2_laysAside_0 9 rfl rfl)
theorem dX2_laysAside_12 : decode cX2_laysAside 12 = .ok (.invokestatic 41, 3) := dk_184 0 41 (dk_at dksX2_laysAside_0 12 rfl rfl)
theorem dX2_laysAside_15 : decode cX2_laysAside 15 = .ok (.return_, 1) := dk_177 (dk_at dksX2_laysAside_0 15 rfl rfl)
abbrev cX2_copies : ByteArray := prog_10_method_7_code
def yX2_copies : MethodName := ⟨RX2, "copies", "([II[II)V"⟩
def dkwX2_copies_1 : List UInt8 := [132, 4, 1, 167, 255, 234, 177]
abbrev dktX2_copies_1 : List UInt8 := dkwX2_copies_1 ++ []
def dkwX2_copies_0 : List UInt8 := [3, 54, 4, 21, 4, 16, 113, 162, 0, 21, 44, 29, 21, 4, 96, 42, 27, 21, 4, 96, 46, 79]
abbrev dktX2_copies_0 : List UInt8 := dkwX2_copies_0 ++ dktX2_copies_1
theorem dksX2_copies_0 : cX2_copies.data.toList.drop 0 = dktX2_copies_0 := by decide +kernel
theorem dksX2_copies_1 : cX2_copies.data.toList.drop 22 = dktX2_copies_1 := dk_seg dksX2_copies_0 22 rfl rfl
theorem dX2_copies_0 : decode cX2_copies 0 = .ok (.iconst 0, 1) := dk_3 (dk_at dksX2_copies_0 0 rfl rfl)
theorem dX2_copies_1 : decode cX2_copies 1 = .ok (.istore 4, 2) := dk_54 4 (dk_at dksX2_copies_0 1 rfl rfl)
theorem dX2_copies_3 : decode cX2_copies 3 = .ok (.iload 4, 2) := dk_21 4 (dk_at dksX2_copies_0 3 rfl rfl)
theorem dX2_copies_5 : decode cX2_copies 5 = .ok (.bipush 113, 2) := dk_16 113 (dk_at dksX2_copies_0 5 rfl rfl)
theorem dX2_copies_7 : decode cX2_copies 7 = .ok (.if_icmp .ge 21, 3) := dk_162 0 21 (dk_at dksX2_copies_0 7 rfl rfl)
theorem dX2_copies_10 : decode cX2_copies 10 = .ok (.aload_n 2, 1) := dk_44 (dk_at dksX2_copies_0 10 rfl rfl)
theorem dX2_copies_11 : decode cX2_copies 11 = .ok (.iload_n 3, 1) := dk_29 (dk_at dksX2_copies_0 11 rfl rfl)
theorem dX2_copies_12 : decode cX2_copies 12 = .ok (.iload 4, 2) := dk_21 4 (dk_at dksX2_copies_0 12 rfl rfl)
theorem dX2_copies_14 : decode cX2_copies 14 = .ok (.iadd, 1) := dk_96 (dk_at dksX2_copies_0 14 rfl rfl)
theorem dX2_copies_15 : decode cX2_copies 15 = .ok (.aload_n 0, 1) := dk_42 (dk_at dksX2_copies_0 15 rfl rfl)
theorem dX2_copies_16 : decode cX2_copies 16 = .ok (.iload_n 1, 1) := dk_27 (dk_at dksX2_copies_0 16 rfl rfl)
theorem dX2_copies_17 : decode cX2_copies 17 = .ok (.iload 4, 2) := dk_21 4 (dk_at dksX2_copies_0 17 rfl rfl)
theorem dX2_copies_19 : decode cX2_copies 19 = .ok (.iadd, 1) := dk_96 (dk_at dksX2_copies_0 19 rfl rfl)
theorem dX2_copies_20 : decode cX2_copies 20 = .ok (.iaload, 1) := dk_46 (dk_at dksX2_copies_0 20 rfl rfl)
theorem dX2_copies_21 : decode cX2_copies 21 = .ok (.iastore, 1) := dk_79 (dk_at dksX2_copies_0 21 rfl rfl)
theorem dX2_copies_22 : decode cX2_copies 22 = .ok (.iinc 4 1, 3) := dk_132 4 1 (dk_at dksX2_copies_1 0 rfl rfl)
theorem dX2_copies_25 : decode cX2_copies 25 = .ok (.goto (-22), 3) := dk_167 255 234 (dk_at dksX2_copies_1 3 rfl rfl)
theorem dX2_copies_28 : decode cX2_copies 28 = .ok (.return_, 1) := dk_177 (dk_at dksX2_copies_1 6 rfl rfl)
abbrev cX2_token : ByteArray := prog_10_method_43_code
def yX2_token : MethodName := ⟨RX2, "token", "()V"⟩
def dkwX2_token_10 : List UInt8 := [181, 0, 137, 42, 89, 180, 0, 128, 4, 96, 181, 0, 128, 177]
abbrev dktX2_token_10 : List UInt8 := dkwX2_token_10 ++ []
def dkwX2_token_9 : List UInt8 := [167, 0, 4, 5, 181, 0, 137, 167, 0, 28, 42, 27, 16, 59, 160, 0, 7, 6, 167, 0, 4, 7]
abbrev dktX2_token_9 : List UInt8 := dkwX2_token_9 ++ dktX2_token_10
def dkwX2_token_8 : List UInt8 := [4, 96, 181, 0, 128, 167, 255, 192, 42, 42, 180, 0, 128, 42, 180, 0, 134, 100, 6, 164, 0, 7, 7]
abbrev dktX2_token_8 : List UInt8 := dkwX2_token_8 ++ dktX2_token_9
def dkwX2_token_7 : List UInt8 := [42, 42, 180, 0, 128, 182, 0, 131, 96, 16, 48, 100, 167, 0, 4, 3, 181, 0, 146, 42, 89, 180, 0, 128]
abbrev dktX2_token_7 : List UInt8 := dkwX2_token_7 ++ dktX2_token_8
def dkwX2_token_6 : List UInt8 := [153, 0, 56, 42, 42, 180, 0, 128, 42, 180, 0, 134, 100, 6, 162, 0, 25, 16, 10, 42, 180, 0, 146, 104]
abbrev dktX2_token_6 : List UInt8 := dkwX2_token_6 ++ dktX2_token_7
def dkwX2_token_5 : List UInt8 := [27, 184, 0, 143, 153, 0, 100, 42, 3, 181, 0, 146, 42, 42, 180, 0, 128, 182, 0, 131, 184, 0, 143]
abbrev dktX2_token_5 : List UInt8 := dkwX2_token_5 ++ dktX2_token_6
def dkwX2_token_4 : List UInt8 := [180, 0, 128, 42, 180, 0, 134, 100, 16, 6, 164, 0, 7, 7, 167, 0, 4, 4, 181, 0, 137, 167, 0, 132]
abbrev dktX2_token_4 : List UInt8 := dkwX2_token_4 ++ dktX2_token_5
def dkwX2_token_3 : List UInt8 := [182, 0, 131, 184, 0, 140, 153, 0, 16, 42, 89, 180, 0, 128, 4, 96, 181, 0, 128, 167, 255, 232, 42, 42]
abbrev dktX2_token_3 : List UInt8 := dkwX2_token_3 ++ dktX2_token_4
def dkwX2_token_2 : List UInt8 := [160, 0, 11, 42, 3, 181, 0, 137, 167, 0, 192, 27, 184, 0, 140, 153, 0, 56, 42, 42, 180, 0, 128]
abbrev dktX2_token_2 : List UInt8 := dkwX2_token_2 ++ dktX2_token_3
def dkwX2_token_1 : List UInt8 := [167, 255, 233, 42, 42, 180, 0, 128, 181, 0, 134, 42, 42, 180, 0, 128, 182, 0, 131, 60, 27, 2]
abbrev dktX2_token_1 : List UInt8 := dkwX2_token_1 ++ dktX2_token_2
def dkwX2_token_0 : List UInt8 := [42, 42, 180, 0, 128, 182, 0, 131, 16, 32, 160, 0, 16, 42, 89, 180, 0, 128, 4, 96, 181, 0, 128]
abbrev dktX2_token_0 : List UInt8 := dkwX2_token_0 ++ dktX2_token_1
theorem dksX2_token_0 : cX2_token.data.toList.drop 0 = dktX2_token_0 := by decide +kernel
theorem dksX2_token_1 : cX2_token.data.toList.drop 23 = dktX2_token_1 := dk_seg dksX2_token_0 23 rfl rfl
theorem dksX2_token_2 : cX2_token.data.toList.drop 45 = dktX2_token_2 := dk_seg dksX2_token_1 22 rfl rfl
theorem dksX2_token_3 : cX2_token.data.toList.drop 68 = dktX2_token_3 := dk_seg dksX2_token_2 23 rfl rfl
theorem dksX2_token_4 : cX2_token.data.toList.drop 92 = dktX2_token_4 := dk_seg dksX2_token_3 24 rfl rfl
theorem dksX2_token_5 : cX2_token.data.toList.drop 116 = dktX2_token_5 := dk_seg dksX2_token_4 24 rfl rfl
theorem dksX2_token_6 : cX2_token.data.toList.drop 139 = dktX2_token_6 := dk_seg dksX2_token_5 23 rfl rfl
theorem dksX2_token_7 : cX2_token.data.toList.drop 163 = dktX2_token_7 := dk_seg dksX2_token_6 24 rfl rfl
theorem dksX2_token_8 : cX2_token.data.toList.drop 187 = dktX2_token_8 := dk_seg dksX2_token_7 24 rfl rfl
theorem dksX2_token_9 : cX2_token.data.toList.drop 210 = dktX2_token_9 := dk_seg dksX2_token_8 23 rfl rfl
theorem dksX2_token_10 : cX2_token.data.toList.drop 232 = dktX2_token_10 := dk_seg dksX2_token_9 22 rfl rfl
theorem dX2_token_0 : decode cX2_token 0 = .ok (.aload_n 0, 1) := dk_42 (dk_at dksX2_token_0 0 rfl rfl)
theorem dX2_token_1 : decode cX2_token 1 = .ok (.aload_n 0, 1) := dk_42 (dk_at dksX2_token_0 1 rfl rfl)
theorem dX2_token_2 : decode cX2_token 2 = .ok (.getfield 128, 3) := dk_180 0 128 (dk_at dksX2_token_0 2 rfl rfl)
theorem dX2_token_5 : decode cX2_token 5 = .ok (.invokevirtual 131, 3) := dk_182 0 131 (dk_at dksX2_token_0 5 rfl rfl)
theorem dX2_token_8 : decode cX2_token 8 = .ok (.bipush 32, 2) := dk_16 32 (dk_at dksX2_token_0 8 rfl rfl)
theorem dX2_token_10 : decode cX2_token 10 = .ok (.if_icmp .ne 16, 3) := dk_160 0 16 (dk_at dksX2_token_0 10 rfl rfl)
theorem dX2_token_13 : decode cX2_token 13 = .ok (.aload_n 0, 1) := dk_42 (dk_at dksX2_token_0 13 rfl rfl)
theorem dX2_token_14 : decode cX2_token 14 = .ok (.dup, 1) := dk_89 (dk_at dksX2_token_0 14 rfl rfl)
theorem dX2_token_15 : decode cX2_token 15 = .ok (.getfield 128, 3) := dk_180 0 128 (dk_at dksX2_token_0 15 rfl rfl)
theorem dX2_token_18 : decode cX2_token 18 = .ok (.iconst 1, 1) := dk_4 (dk_at dksX2_token_0 18 rfl rfl)
theorem dX2_token_19 : decode cX2_token 19 = .ok (.iadd, 1) := dk_96 (dk_at dksX2_token_0 19 rfl rfl)
theorem dX2_token_20 : decode cX2_token 20 = .ok (.putfield 128, 3) := dk_181 0 128 (dk_at dksX2_token_0 20 rfl rfl)
theorem dX2_token_23 : decode cX2_token 23 = .ok (.goto (-23), 3) := dk_167 255 233 (dk_at dksX2_token_1 0 rfl rfl)
theorem dX2_token_26 : decode cX2_token 26 = .ok (.aload_n 0, 1) := dk_42 (dk_at dksX2_token_1 3 rfl rfl)
theorem dX2_token_27 : decode cX2_token 27 = .ok (.aload_n 0, 1) := dk_42 (dk_at dksX2_token_1 4 rfl rfl)
theorem dX2_token_28 : decode cX2_token 28 = .ok (.getfield 128, 3) := dk_180 0 128 (dk_at dksX2_token_1 5 rfl rfl)
theorem dX2_token_31 : decode cX2_token 31 = .ok (.putfield 134, 3) := dk_181 0 134 (dk_at dksX2_token_1 8 rfl rfl)
theorem dX2_token_34 : decode cX2_token 34 = .ok (.aload_n 0, 1) := dk_42 (dk_at dksX2_token_1 11 rfl rfl)
theorem dX2_token_35 : decode cX2_token 35 = .ok (.aload_n 0, 1) := dk_42 (dk_at dksX2_token_1 12 rfl rfl)
theorem dX2_token_36 : decode cX2_token 36 = .ok (.getfield 128, 3) := dk_180 0 128 (dk_at dksX2_token_1 13 rfl rfl)
theorem dX2_token_39 : decode cX2_token 39 = .ok (.invokevirtual 131, 3) := dk_182 0 131 (dk_at dksX2_token_1 16 rfl rfl)
theorem dX2_token_42 : decode cX2_token 42 = .ok (.istore_n 1, 1) := dk_60 (dk_at dksX2_token_1 19 rfl rfl)
theorem dX2_token_43 : decode cX2_token 43 = .ok (.iload_n 1, 1) := dk_27 (dk_at dksX2_token_1 20 rfl rfl)
theorem dX2_token_44 : decode cX2_token 44 = .ok (.iconst (-1), 1) := dk_2 (dk_at dksX2_token_1 21 rfl rfl)
theorem dX2_token_45 : decode cX2_token 45 = .ok (.if_icmp .ne 11, 3) := dk_160 0 11 (dk_at dksX2_token_2 0 rfl rfl)
theorem dX2_token_48 : decode cX2_token 48 = .ok (.aload_n 0, 1) := dk_42 (dk_at dksX2_token_2 3 rfl rfl)
theorem dX2_token_49 : decode cX2_token 49 = .ok (.iconst 0, 1) := dk_3 (dk_at dksX2_token_2 4 rfl rfl)
theorem dX2_token_50 : decode cX2_token 50 = .ok (.putfield 137, 3) := dk_181 0 137 (dk_at dksX2_token_2 5 rfl rfl)
theorem dX2_token_53 : decode cX2_token 53 = .ok (.goto 192, 3) := dk_167 0 192 (dk_at dksX2_token_2 8 rfl rfl)
theorem dX2_token_56 : decode cX2_token 56 = .ok (.iload_n 1, 1) := dk_27 (dk_at dksX2_token_2 11 rfl rfl)
theorem dX2_token_57 : decode cX2_token 57 = .ok (.invokestatic 140, 3) := dk_184 0 140 (dk_at dksX2_token_2 12 rfl rfl)
theorem dX2_token_60 : decode cX2_token 60 = .ok (.ifCond .eq 56, 3) := dk_153 0 56 (dk_at dksX2_token_2 15 rfl rfl)
theorem dX2_token_63 : decode cX2_token 63 = .ok (.aload_n 0, 1) := dk_42 (dk_at dksX2_token_2 18 rfl rfl)
theorem dX2_token_64 : decode cX2_token 64 = .ok (.aload_n 0, 1) := dk_42 (dk_at dksX2_token_2 19 rfl rfl)
theorem dX2_token_65 : decode cX2_token 65 = .ok (.getfield 128, 3) := dk_180 0 128 (dk_at dksX2_token_2 20 rfl rfl)
theorem dX2_token_68 : decode cX2_token 68 = .ok (.invokevirtual 131, 3) := dk_182 0 131 (dk_at dksX2_token_3 0 rfl rfl)
theorem dX2_token_71 : decode cX2_token 71 = .ok (.invokestatic 140, 3) := dk_184 0 140 (dk_at dksX2_token_3 3 rfl rfl)
theorem dX2_token_74 : decode cX2_token 74 = .ok (.ifCond .eq 16, 3) := dk_153 0 16 (dk_at dksX2_token_3 6 rfl rfl)
theorem dX2_token_77 : decode cX2_token 77 = .ok (.aload_n 0, 1) := dk_42 (dk_at dksX2_token_3 9 rfl rfl)
theorem dX2_token_78 : decode cX2_token 78 = .ok (.dup, 1) := dk_89 (dk_at dksX2_token_3 10 rfl rfl)
theorem dX2_token_79 : decode cX2_token 79 = .ok (.getfield 128, 3) := dk_180 0 128 (dk_at dksX2_token_3 11 rfl rfl)
theorem dX2_token_82 : decode cX2_token 82 = .ok (.iconst 1, 1) := dk_4 (dk_at dksX2_token_3 14 rfl rfl)
theorem dX2_token_83 : decode cX2_token 83 = .ok (.iadd, 1) := dk_96 (dk_at dksX2_token_3 15 rfl rfl)
theorem dX2_token_84 : decode cX2_token 84 = .ok (.putfield 128, 3) := dk_181 0 128 (dk_at dksX2_token_3 16 rfl rfl)
theorem dX2_token_87 : decode cX2_token 87 = .ok (.goto (-24), 3) := dk_167 255 232 (dk_at dksX2_token_3 19 rfl rfl)
theorem dX2_token_90 : decode cX2_token 90 = .ok (.aload_n 0, 1) := dk_42 (dk_at dksX2_token_3 22 rfl rfl)
theorem dX2_token_91 : decode cX2_token 91 = .ok (.aload_n 0, 1) := dk_42 (dk_at dksX2_token_3 23 rfl rfl)
theorem dX2_token_92 : decode cX2_token 92 = .ok (.getfield 128, 3) := dk_180 0 128 (dk_at dksX2_token_4 0 rfl rfl)
theorem dX2_token_95 : decode cX2_token 95 = .ok (.aload_n 0, 1) := dk_42 (dk_at dksX2_token_4 3 rfl rfl)
theorem dX2_token_96 : decode cX2_token 96 = .ok (.getfield 134, 3) := dk_180 0 134 (dk_at dksX2_token_4 4 rfl rfl)
theorem dX2_token_99 : decode cX2_token 99 = .ok (.isub, 1) := dk_100 (dk_at dksX2_token_4 7 rfl rfl)
theorem dX2_token_100 : decode cX2_token 100 = .ok (.bipush 6, 2) := dk_16 6 (dk_at dksX2_token_4 8 rfl rfl)
theorem dX2_token_102 : decode cX2_token 102 = .ok (.if_icmp .le 7, 3) := dk_164 0 7 (dk_at dksX2_token_4 10 rfl rfl)
theorem dX2_token_105 : decode cX2_token 105 = .ok (.iconst 4, 1) := dk_7 (dk_at dksX2_token_4 13 rfl rfl)
theorem dX2_token_106 : decode cX2_token 106 = .ok (.goto 4, 3) := dk_167 0 4 (dk_at dksX2_token_4 14 rfl rfl)
theorem dX2_token_109 : decode cX2_token 109 = .ok (.iconst 1, 1) := dk_4 (dk_at dksX2_token_4 17 rfl rfl)
theorem dX2_token_110 : decode cX2_token 110 = .ok (.putfield 137, 3) := dk_181 0 137 (dk_at dksX2_token_4 18 rfl rfl)
theorem dX2_token_113 : decode cX2_token 113 = .ok (.goto 132, 3) := dk_167 0 132 (dk_at dksX2_token_4 21 rfl rfl)
theorem dX2_token_116 : decode cX2_token 116 = .ok (.iload_n 1, 1) := dk_27 (dk_at dksX2_token_5 0 rfl rfl)
theorem dX2_token_117 : decode cX2_token 117 = .ok (.invokestatic 143, 3) := dk_184 0 143 (dk_at dksX2_token_5 1 rfl rfl)
theorem dX2_token_120 : decode cX2_token 120 = .ok (.ifCond .eq 100, 3) := dk_153 0 100 (dk_at dksX2_token_5 4 rfl rfl)
theorem dX2_token_123 : decode cX2_token 123 = .ok (.aload_n 0, 1) := dk_42 (dk_at dksX2_token_5 7 rfl rfl)
theorem dX2_token_124 : decode cX2_token 124 = .ok (.iconst 0, 1) := dk_3 (dk_at dksX2_token_5 8 rfl rfl)
theorem dX2_token_125 : decode cX2_token 125 = .ok (.putfield 146, 3) := dk_181 0 146 (dk_at dksX2_token_5 9 rfl rfl)
theorem dX2_token_128 : decode cX2_token 128 = .ok (.aload_n 0, 1) := dk_42 (dk_at dksX2_token_5 12 rfl rfl)
theorem dX2_token_129 : decode cX2_token 129 = .ok (.aload_n 0, 1) := dk_42 (dk_at dksX2_token_5 13 rfl rfl)
theorem dX2_token_130 : decode cX2_token 130 = .ok (.getfield 128, 3) := dk_180 0 128 (dk_at dksX2_token_5 14 rfl rfl)
theorem dX2_token_133 : decode cX2_token 133 = .ok (.invokevirtual 131, 3) := dk_182 0 131 (dk_at dksX2_token_5 17 rfl rfl)
theorem dX2_token_136 : decode cX2_token 136 = .ok (.invokestatic 143, 3) := dk_184 0 143 (dk_at dksX2_token_5 20 rfl rfl)
theorem dX2_token_139 : decode cX2_token 139 = .ok (.ifCond .eq 56, 3) := dk_153 0 56 (dk_at dksX2_token_6 0 rfl rfl)
theorem dX2_token_142 : decode cX2_token 142 = .ok (.aload_n 0, 1) := dk_42 (dk_at dksX2_token_6 3 rfl rfl)
theorem dX2_token_143 : decode cX2_token 143 = .ok (.aload_n 0, 1) := dk_42 (dk_at dksX2_token_6 4 rfl rfl)
theorem dX2_token_144 : decode cX2_token 144 = .ok (.getfield 128, 3) := dk_180 0 128 (dk_at dksX2_token_6 5 rfl rfl)
theorem dX2_token_147 : decode cX2_token 147 = .ok (.aload_n 0, 1) := dk_42 (dk_at dksX2_token_6 8 rfl rfl)
theorem dX2_token_148 : decode cX2_token 148 = .ok (.getfield 134, 3) := dk_180 0 134 (dk_at dksX2_token_6 9 rfl rfl)
theorem dX2_token_151 : decode cX2_token 151 = .ok (.isub, 1) := dk_100 (dk_at dksX2_token_6 12 rfl rfl)
theorem dX2_token_152 : decode cX2_token 152 = .ok (.iconst 3, 1) := dk_6 (dk_at dksX2_token_6 13 rfl rfl)
theorem dX2_token_153 : decode cX2_token 153 = .ok (.if_icmp .ge 25, 3) := dk_162 0 25 (dk_at dksX2_token_6 14 rfl rfl)
theorem dX2_token_156 : decode cX2_token 156 = .ok (.bipush 10, 2) := dk_16 10 (dk_at dksX2_token_6 17 rfl rfl)
theorem dX2_token_158 : decode cX2_token 158 = .ok (.aload_n 0, 1) := dk_42 (dk_at dksX2_token_6 19 rfl rfl)
theorem dX2_token_159 : decode cX2_token 159 = .ok (.getfield 146, 3) := dk_180 0 146 (dk_at dksX2_token_6 20 rfl rfl)
theorem dX2_token_162 : decode cX2_token 162 = .ok (.imul, 1) := dk_104 (dk_at dksX2_token_6 23 rfl rfl)
theorem dX2_token_163 : decode cX2_token 163 = .ok (.aload_n 0, 1) := dk_42 (dk_at dksX2_token_7 0 rfl rfl)
theorem dX2_token_164 : decode cX2_token 164 = .ok (.aload_n 0, 1) := dk_42 (dk_at dksX2_token_7 1 rfl rfl)
theorem dX2_token_165 : decode cX2_token 165 = .ok (.getfield 128, 3) := dk_180 0 128 (dk_at dksX2_token_7 2 rfl rfl)
theorem dX2_token_168 : decode cX2_token 168 = .ok (.invokevirtual 131, 3) := dk_182 0 131 (dk_at dksX2_token_7 5 rfl rfl)
theorem dX2_token_171 : decode cX2_token 171 = .ok (.iadd, 1) := dk_96 (dk_at dksX2_token_7 8 rfl rfl)
theorem dX2_token_172 : decode cX2_token 172 = .ok (.bipush 48, 2) := dk_16 48 (dk_at dksX2_token_7 9 rfl rfl)
theorem dX2_token_174 : decode cX2_token 174 = .ok (.isub, 1) := dk_100 (dk_at dksX2_token_7 11 rfl rfl)
theorem dX2_token_175 : decode cX2_token 175 = .ok (.goto 4, 3) := dk_167 0 4 (dk_at dksX2_token_7 12 rfl rfl)
theorem dX2_token_178 : decode cX2_token 178 = .ok (.iconst 0, 1) := dk_3 (dk_at dksX2_token_7 15 rfl rfl)
theorem dX2_token_179 : decode cX2_token 179 = .ok (.putfield 146, 3) := dk_181 0 146 (dk_at dksX2_token_7 16 rfl rfl)
theorem dX2_token_182 : decode cX2_token 182 = .ok (.aload_n 0, 1) := dk_42 (dk_at dksX2_token_7 19 rfl rfl)
theorem dX2_token_183 : decode cX2_token 183 = .ok (.dup, 1) := dk_89 (dk_at dksX2_token_7 20 rfl rfl)
theorem dX2_token_184 : decode cX2_token 184 = .ok (.getfield 128, 3) := dk_180 0 128 (dk_at dksX2_token_7 21 rfl rfl)
theorem dX2_token_187 : decode cX2_token 187 = .ok (.iconst 1, 1) := dk_4 (dk_at dksX2_token_8 0 rfl rfl)
theorem dX2_token_188 : decode cX2_token 188 = .ok (.iadd, 1) := dk_96 (dk_at dksX2_token_8 1 rfl rfl)
theorem dX2_token_189 : decode cX2_token 189 = .ok (.putfield 128, 3) := dk_181 0 128 (dk_at dksX2_token_8 2 rfl rfl)
theorem dX2_token_192 : decode cX2_token 192 = .ok (.goto (-64), 3) := dk_167 255 192 (dk_at dksX2_token_8 5 rfl rfl)
theorem dX2_token_195 : decode cX2_token 195 = .ok (.aload_n 0, 1) := dk_42 (dk_at dksX2_token_8 8 rfl rfl)
theorem dX2_token_196 : decode cX2_token 196 = .ok (.aload_n 0, 1) := dk_42 (dk_at dksX2_token_8 9 rfl rfl)
theorem dX2_token_197 : decode cX2_token 197 = .ok (.getfield 128, 3) := dk_180 0 128 (dk_at dksX2_token_8 10 rfl rfl)
theorem dX2_token_200 : decode cX2_token 200 = .ok (.aload_n 0, 1) := dk_42 (dk_at dksX2_token_8 13 rfl rfl)
theorem dX2_token_201 : decode cX2_token 201 = .ok (.getfield 134, 3) := dk_180 0 134 (dk_at dksX2_token_8 14 rfl rfl)
theorem dX2_token_204 : decode cX2_token 204 = .ok (.isub, 1) := dk_100 (dk_at dksX2_token_8 17 rfl rfl)
theorem dX2_token_205 : decode cX2_token 205 = .ok (.iconst 3, 1) := dk_6 (dk_at dksX2_token_8 18 rfl rfl)
theorem dX2_token_206 : decode cX2_token 206 = .ok (.if_icmp .le 7, 3) := dk_164 0 7 (dk_at dksX2_token_8 19 rfl rfl)
theorem dX2_token_209 : decode cX2_token 209 = .ok (.iconst 4, 1) := dk_7 (dk_at dksX2_token_8 22 rfl rfl)
theorem dX2_token_210 : decode cX2_token 210 = .ok (.goto 4, 3) := dk_167 0 4 (dk_at dksX2_token_9 0 rfl rfl)
theorem dX2_token_213 : decode cX2_token 213 = .ok (.iconst 2, 1) := dk_5 (dk_at dksX2_token_9 3 rfl rfl)
theorem dX2_token_214 : decode cX2_token 214 = .ok (.putfield 137, 3) := dk_181 0 137 (dk_at dksX2_token_9 4 rfl rfl)
theorem dX2_token_217 : decode cX2_token 217 = .ok (.goto 28, 3) := dk_167 0 28 (dk_at dksX2_token_9 7 rfl rfl)
theorem dX2_token_220 : decode cX2_token 220 = .ok (.aload_n 0, 1) := dk_42 (dk_at dksX2_token_9 10 rfl rfl)
theorem dX2_token_221 : decode cX2_token 221 = .ok (.iload_n 1, 1) := dk_27 (dk_at dksX2_token_9 11 rfl rfl)
theorem dX2_token_222 : decode cX2_token 222 = .ok (.bipush 59, 2) := dk_16 59 (dk_at dksX2_token_9 12 rfl rfl)
theorem dX2_token_224 : decode cX2_token 224 = .ok (.if_icmp .ne 7, 3) := dk_160 0 7 (dk_at dksX2_token_9 14 rfl rfl)
theorem dX2_token_227 : decode cX2_token 227 = .ok (.iconst 3, 1) := dk_6 (dk_at dksX2_token_9 17 rfl rfl)
theorem dX2_token_228 : decode cX2_token 228 = .ok (.goto 4, 3) := dk_167 0 4 (dk_at dksX2_token_9 18 rfl rfl)
theorem dX2_token_231 : decode cX2_token 231 = .ok (.iconst 4, 1) := dk_7 (dk_at dksX2_token_9 21 rfl rfl)
theorem dX2_token_232 : decode cX2_token 232 = .ok (.putfield 137, 3) := dk_181 0 137 (dk_at dksX2_token_10 0 rfl rfl)
theorem dX2_token_235 : decode cX2_token 235 = .ok (.aload_n 0, 1) := dk_42 (dk_at dksX2_token_10 3 rfl rfl)
theorem dX2_token_236 : decode cX2_token 236 = .ok (.dup, 1) := dk_89 (dk_at dksX2_token_10 4 rfl rfl)
theorem dX2_token_237 : decode cX2_token 237 = .ok (.getfield 128, 3) := dk_180 0 128 (dk_at dksX2_token_10 5 rfl rfl)
theorem dX2_token_240 : decode cX2_token 240 = .ok (.iconst 1, 1) := dk_4 (dk_at dksX2_token_10 8 rfl rfl)
theorem dX2_token_241 : decode cX2_token 241 = .ok (.iadd, 1) := dk_96 (dk_at dksX2_token_10 9 rfl rfl)
theorem dX2_token_242 : decode cX2_token 242 = .ok (.putfield 128, 3) := dk_181 0 128 (dk_at dksX2_token_10 10 rfl rfl)
theorem dX2_token_245 : decode cX2_token 245 = .ok (.return_, 1) := dk_177 (dk_at dksX2_token_10 13 rfl rfl)
abbrev cX2_seen : ByteArray := prog_10_method_40_code
def yX2_seen : MethodName := ⟨RX2, "seen", "(I)I"⟩
def dkwX2_seen_0 : List UInt8 := [27, 42, 180, 0, 125, 162, 0, 12, 42, 180, 0, 20, 27, 46, 167, 0, 4, 2, 172]
abbrev dktX2_seen_0 : List UInt8 := dkwX2_seen_0 ++ []
theorem dksX2_seen_0 : cX2_seen.data.toList.drop 0 = dktX2_seen_0 := by decide +kernel
theorem dX2_seen_0 : decode cX2_seen 0 = .ok (.iload_n 1, 1) := dk_27 (dk_at dksX2_seen_0 0 rfl rfl)
theorem dX2_seen_1 : decode cX2_seen 1 = .ok (.aload_n 0, 1) := dk_42 (dk_at dksX2_seen_0 1 rfl rfl)
theorem dX2_seen_2 : decode cX2_seen 2 = .ok (.getfield 125, 3) := dk_180 0 125 (dk_at dksX2_seen_0 2 rfl rfl)
theorem dX2_seen_5 : decode cX2_seen 5 = .ok (.if_icmp .ge 12, 3) := dk_162 0 12 (dk_at dksX2_seen_0 5 rfl rfl)
theorem dX2_seen_8 : decode cX2_seen 8 = .ok (.aload_n 0, 1) := dk_42 (dk_at dksX2_seen_0 8 rfl rfl)
theorem dX2_seen_9 : decode cX2_seen 9 = .ok (.getfield 20, 3) := dk_180 0 20 (dk_at dksX2_seen_0 9 rfl rfl)
theorem dX2_seen_12 : decode cX2_seen 12 = .ok (.iload_n 1, 1) := dk_27 (dk_at dksX2_seen_0 12 rfl rfl)
theorem dX2_seen_13 : decode cX2_seen 13 = .ok (.iaload, 1) := dk_46 (dk_at dksX2_seen_0 13 rfl rfl)
theorem dX2_seen_14 : decode cX2_seen 14 = .ok (.goto 4, 3) := dk_167 0 4 (dk_at dksX2_seen_0 14 rfl rfl)
theorem dX2_seen_17 : decode cX2_seen 17 = .ok (.iconst (-1), 1) := dk_2 (dk_at dksX2_seen_0 17 rfl rfl)
theorem dX2_seen_18 : decode cX2_seen 18 = .ok (.ireturn, 1) := dk_172 (dk_at dksX2_seen_0 18 rfl rfl)
abbrev cX2_isSmall : ByteArray := prog_10_method_41_code
def yX2_isSmall : MethodName := ⟨RX2, "isSmall", "(I)Z"⟩
def dkwX2_isSmall_0 : List UInt8 := [26, 16, 97, 161, 0, 13, 26, 16, 122, 163, 0, 7, 4, 167, 0, 4, 3, 172]
abbrev dktX2_isSmall_0 : List UInt8 := dkwX2_isSmall_0 ++ []
theorem dksX2_isSmall_0 : cX2_isSmall.data.toList.drop 0 = dktX2_isSmall_0 := by decide +kernel
theorem dX2_isSmall_0 : decode cX2_isSmall 0 = .ok (.iload_n 0, 1) := dk_26 (dk_at dksX2_isSmall_0 0 rfl rfl)
theorem dX2_isSmall_1 : decode cX2_isSmall 1 = .ok (.bipush 97, 2) := dk_16 97 (dk_at dksX2_isSmall_0 1 rfl rfl)
theorem dX2_isSmall_3 : decode cX2_isSmall 3 = .ok (.if_icmp .lt 13, 3) := dk_161 0 13 (dk_at dksX2_isSmall_0 3 rfl rfl)
theorem dX2_isSmall_6 : decode cX2_isSmall 6 = .ok (.iload_n 0, 1) := dk_26 (dk_at dksX2_isSmall_0 6 rfl rfl)
theorem dX2_isSmall_7 : decode cX2_isSmall 7 = .ok (.bipush 122, 2) := dk_16 122 (dk_at dksX2_isSmall_0 7 rfl rfl)
theorem dX2_isSmall_9 : decode cX2_isSmall 9 = .ok (.if_icmp .gt 7, 3) := dk_163 0 7 (dk_at dksX2_isSmall_0 9 rfl rfl)
theorem dX2_isSmall_12 : decode cX2_isSmall 12 = .ok (.iconst 1, 1) := dk_4 (dk_at dksX2_isSmall_0 12 rfl rfl)
theorem dX2_isSmall_13 : decode cX2_isSmall 13 = .ok (.goto 4, 3) := dk_167 0 4 (dk_at dksX2_isSmall_0 13 rfl rfl)
theorem dX2_isSmall_16 : decode cX2_isSmall 16 = .ok (.iconst 0, 1) := dk_3 (dk_at dksX2_isSmall_0 16 rfl rfl)
theorem dX2_isSmall_17 : decode cX2_isSmall 17 = .ok (.ireturn, 1) := dk_172 (dk_at dksX2_isSmall_0 17 rfl rfl)
abbrev cX2_isDigit : ByteArray := prog_10_method_42_code
def yX2_isDigit : MethodName := ⟨RX2, "isDigit", "(I)Z"⟩
def dkwX2_isDigit_0 : List UInt8 := [26, 16, 48, 161, 0, 13, 26, 16, 57, 163, 0, 7, 4, 167, 0, 4, 3, 172]
abbrev dktX2_isDigit_0 : List UInt8 := dkwX2_isDigit_0 ++ []
theorem dksX2_isDigit_0 : cX2_isDigit.data.toList.drop 0 = dktX2_isDigit_0 := by decide +kernel
theorem dX2_isDigit_0 : decode cX2_isDigit 0 = .ok (.iload_n 0, 1) := dk_26 (dk_at dksX2_isDigit_0 0 rfl rfl)
theorem dX2_isDigit_1 : decode cX2_isDigit 1 = .ok (.bipush 48, 2) := dk_16 48 (dk_at dksX2_isDigit_0 1 rfl rfl)
theorem dX2_isDigit_3 : decode cX2_isDigit 3 = .ok (.if_icmp .lt 13, 3) := dk_161 0 13 (dk_at dksX2_isDigit_0 3 rfl rfl)
theorem dX2_isDigit_6 : decode cX2_isDigit 6 = .ok (.iload_n 0, 1) := dk_26 (dk_at dksX2_isDigit_0 6 rfl rfl)
theorem dX2_isDigit_7 : decode cX2_isDigit 7 = .ok (.bipush 57, 2) := dk_16 57 (dk_at dksX2_isDigit_0 7 rfl rfl)
theorem dX2_isDigit_9 : decode cX2_isDigit 9 = .ok (.if_icmp .gt 7, 3) := dk_163 0 7 (dk_at dksX2_isDigit_0 9 rfl rfl)
theorem dX2_isDigit_12 : decode cX2_isDigit 12 = .ok (.iconst 1, 1) := dk_4 (dk_at dksX2_isDigit_0 12 rfl rfl)
theorem dX2_isDigit_13 : decode cX2_isDigit 13 = .ok (.goto 4, 3) := dk_167 0 4 (dk_at dksX2_isDigit_0 13 rfl rfl)
theorem dX2_isDigit_16 : decode cX2_isDigit 16 = .ok (.iconst 0, 1) := dk_3 (dk_at dksX2_isDigit_0 16 rfl rfl)
theorem dX2_isDigit_17 : decode cX2_isDigit 17 = .ok (.ireturn, 1) := dk_172 (dk_at dksX2_isDigit_0 17 rfl rfl)
abbrev cX2_reads : ByteArray := prog_10_method_57_code
def yX2_reads : MethodName := ⟨RX2, "reads", "()V"⟩
def dkwX2_reads_10 : List UInt8 := [182, 0, 241, 167, 255, 233, 42, 42, 180, 0, 137, 153, 0, 7, 4, 167, 0, 4, 3, 4, 182, 0, 189, 177]
abbrev dktX2_reads_10 : List UInt8 := dkwX2_reads_10 ++ []
def dkwX2_reads_9 : List UInt8 := [182, 0, 186, 79, 42, 180, 0, 149, 154, 0, 22, 42, 180, 0, 137, 6, 160, 0, 14, 42, 182, 0, 159, 42]
abbrev dktX2_reads_9 : List UInt8 := dkwX2_reads_9 ++ dktX2_reads_10
def dkwX2_reads_8 : List UInt8 := [180, 0, 7, 16, 7, 42, 3, 16, 30, 182, 0, 186, 79, 42, 180, 0, 7, 16, 8, 42, 4, 8]
abbrev dktX2_reads_8 : List UInt8 := dkwX2_reads_8 ++ dktX2_reads_9
def dkwX2_reads_7 : List UInt8 := [17, 0, 200, 182, 0, 186, 79, 42, 180, 0, 7, 16, 6, 42, 4, 16, 99, 182, 0, 186, 79, 42]
abbrev dktX2_reads_7 : List UInt8 := dkwX2_reads_7 ++ dktX2_reads_8
def dkwX2_reads_6 : List UInt8 := [154, 0, 7, 4, 167, 0, 4, 3, 4, 182, 0, 189, 42, 182, 0, 177, 42, 180, 0, 7, 8, 42, 4]
abbrev dktX2_reads_6 : List UInt8 := dkwX2_reads_6 ++ dktX2_reads_7
def dkwX2_reads_5 : List UInt8 := [6, 159, 0, 7, 4, 167, 0, 4, 3, 4, 182, 0, 189, 42, 182, 0, 177, 42, 42, 18, 239, 182, 0, 201]
abbrev dktX2_reads_5 : List UInt8 := dkwX2_reads_5 ++ dktX2_reads_6
def dkwX2_reads_4 : List UInt8 := [180, 0, 7, 6, 42, 182, 0, 183, 79, 42, 180, 0, 7, 7, 42, 182, 0, 183, 79, 42, 42, 180, 0, 137]
abbrev dktX2_reads_4 : List UInt8 := dkwX2_reads_4 ++ dktX2_reads_5
def dkwX2_reads_3 : List UInt8 := [4, 42, 8, 16, 60, 182, 0, 186, 79, 42, 180, 0, 7, 5, 42, 4, 16, 9, 182, 0, 186, 79, 42]
abbrev dktX2_reads_3 : List UInt8 := dkwX2_reads_3 ++ dktX2_reads_4
def dkwX2_reads_2 : List UInt8 := [182, 0, 189, 42, 182, 0, 177, 42, 180, 0, 7, 3, 42, 6, 16, 9, 182, 0, 186, 79, 42, 180, 0, 7]
abbrev dktX2_reads_2 : List UInt8 := dkwX2_reads_2 ++ dktX2_reads_3
def dkwX2_reads_1 : List UInt8 := [180, 0, 7, 16, 10, 2, 79, 42, 42, 18, 237, 182, 0, 201, 154, 0, 7, 4, 167, 0, 4, 3, 4]
abbrev dktX2_reads_1 : List UInt8 := dkwX2_reads_1 ++ dktX2_reads_2
def dkwX2_reads_0 : List UInt8 := [3, 60, 27, 16, 113, 162, 0, 16, 42, 180, 0, 7, 27, 3, 79, 132, 1, 1, 167, 255, 240, 42]
abbrev dktX2_reads_0 : List UInt8 := dkwX2_reads_0 ++ dktX2_reads_1
theorem dksX2_reads_0 : cX2_reads.data.toList.drop 0 = dktX2_reads_0 := by decide +kernel
theorem dksX2_reads_1 : cX2_reads.data.toList.drop 22 = dktX2_reads_1 := dk_seg dksX2_reads_0 22 rfl rfl
theorem dksX2_reads_2 : cX2_reads.data.toList.drop 45 = dktX2_reads_2 := dk_seg dksX2_reads_1 23 rfl rfl
theorem dksX2_reads_3 : cX2_reads.data.toList.drop 69 = dktX2_reads_3 := dk_seg dksX2_reads_2 24 rfl rfl
theorem dksX2_reads_4 : cX2_reads.data.toList.drop 92 = dktX2_reads_4 := dk_seg dksX2_reads_3 23 rfl rfl
theorem dksX2_reads_5 : cX2_reads.data.toList.drop 116 = dktX2_reads_5 := dk_seg dksX2_reads_4 24 rfl rfl
theorem dksX2_reads_6 : cX2_reads.data.toList.drop 140 = dktX2_reads_6 := dk_seg dksX2_reads_5 24 rfl rfl
theorem dksX2_reads_7 : cX2_reads.data.toList.drop 163 = dktX2_reads_7 := dk_seg dksX2_reads_6 23 rfl rfl
theorem dksX2_reads_8 : cX2_reads.data.toList.drop 185 = dktX2_reads_8 := dk_seg dksX2_reads_7 22 rfl rfl
theorem dksX2_reads_9 : cX2_reads.data.toList.drop 207 = dktX2_reads_9 := dk_seg dksX2_reads_8 22 rfl rfl
theorem dksX2_reads_10 : cX2_reads.data.toList.drop 231 = dktX2_reads_10 := dk_seg dksX2_reads_9 24 rfl rfl
theorem dX2_reads_0 : decode cX2_reads 0 = .ok (.iconst 0, 1) := dk_3 (dk_at dksX2_reads_0 0 rfl rfl)
theorem dX2_reads_1 : decode cX2_reads 1 = .ok (.istore_n 1, 1) := dk_60 (dk_at dksX2_reads_0 1 rfl rfl)
theorem dX2_reads_2 : decode cX2_reads 2 = .ok (.iload_n 1, 1) := dk_27 (dk_at dksX2_reads_0 2 rfl rfl)
theorem dX2_reads_3 : decode cX2_reads 3 = .ok (.bipush 113, 2) := dk_16 113 (dk_at dksX2_reads_0 3 rfl rfl)
theorem dX2_reads_5 : decode cX2_reads 5 = .ok (.if_icmp .ge 16, 3) := dk_162 0 16 (dk_at dksX2_reads_0 5 rfl rfl)
theorem dX2_reads_8 : decode cX2_reads 8 = .ok (.aload_n 0, 1) := dk_42 (dk_at dksX2_reads_0 8 rfl rfl)
theorem dX2_reads_9 : decode cX2_reads 9 = .ok (.getfield 7, 3) := dk_180 0 7 (dk_at dksX2_reads_0 9 rfl rfl)
theorem dX2_reads_12 : decode cX2_reads 12 = .ok (.iload_n 1, 1) := dk_27 (dk_at dksX2_reads_0 12 rfl rfl)
theorem dX2_reads_13 : decode cX2_reads 13 = .ok (.iconst 0, 1) := dk_3 (dk_at dksX2_reads_0 13 rfl rfl)
theorem dX2_reads_14 : decode cX2_reads 14 = .ok (.iastore, 1) := dk_79 (dk_at dksX2_reads_0 14 rfl rfl)
theorem dX2_reads_15 : decode cX2_reads 15 = .ok (.iinc 1 1, 3) := dk_132 1 1 (dk_at dksX2_reads_0 15 rfl rfl)
theorem dX2_reads_18 : decode cX2_reads 18 = .ok (.goto (-16), 3) := dk_167 255 240 (dk_at dksX2_reads_0 18 rfl rfl)
theorem dX2_reads_21 : decode cX2_reads 21 = .ok (.aload_n 0, 1) := dk_42 (dk_at dksX2_reads_0 21 rfl rfl)
theorem dX2_reads_22 : decode cX2_reads 22 = .ok (.getfield 7, 3) := dk_180 0 7 (dk_at dksX2_reads_1 0 rfl rfl)
theorem dX2_reads_25 : decode cX2_reads 25 = .ok (.bipush 10, 2) := dk_16 10 (dk_at dksX2_reads_1 3 rfl rfl)
theorem dX2_reads_27 : decode cX2_reads 27 = .ok (.iconst (-1), 1) := dk_2 (dk_at dksX2_reads_1 5 rfl rfl)
theorem dX2_reads_28 : decode cX2_reads 28 = .ok (.iastore, 1) := dk_79 (dk_at dksX2_reads_1 6 rfl rfl)
theorem dX2_reads_29 : decode cX2_reads 29 = .ok (.aload_n 0, 1) := dk_42 (dk_at dksX2_reads_1 7 rfl rfl)
theorem dX2_reads_30 : decode cX2_reads 30 = .ok (.aload_n 0, 1) := dk_42 (dk_at dksX2_reads_1 8 rfl rfl)
theorem dX2_reads_31 : decode cX2_reads 31 = .ok (.ldc 237, 2) := dk_18 237 (dk_at dksX2_reads_1 9 rfl rfl)
theorem dX2_reads_33 : decode cX2_reads 33 = .ok (.invokevirtual 201, 3) := dk_182 0 201 (dk_at dksX2_reads_1 11 rfl rfl)
theorem dX2_reads_36 : decode cX2_reads 36 = .ok (.ifCond .ne 7, 3) := dk_154 0 7 (dk_at dksX2_reads_1 14 rfl rfl)
theorem dX2_reads_39 : decode cX2_reads 39 = .ok (.iconst 1, 1) := dk_4 (dk_at dksX2_reads_1 17 rfl rfl)
theorem dX2_reads_40 : decode cX2_reads 40 = .ok (.goto 4, 3) := dk_167 0 4 (dk_at dksX2_reads_1 18 rfl rfl)
theorem dX2_reads_43 : decode cX2_reads 43 = .ok (.iconst 0, 1) := dk_3 (dk_at dksX2_reads_1 21 rfl rfl)
theorem dX2_reads_44 : decode cX2_reads 44 = .ok (.iconst 1, 1) := dk_4 (dk_at dksX2_reads_1 22 rfl rfl)
theorem dX2_reads_45 : decode cX2_reads 45 = .ok (.invokevirtual 189, 3) := dk_182 0 189 (dk_at dksX2_reads_2 0 rfl rfl)
theorem dX2_reads_48 : decode cX2_reads 48 = .ok (.aload_n 0, 1) := dk_42 (dk_at dksX2_reads_2 3 rfl rfl)
theorem dX2_reads_49 : decode cX2_reads 49 = .ok (.invokevirtual 177, 3) := dk_182 0 177 (dk_at dksX2_reads_2 4 rfl rfl)
theorem dX2_reads_52 : decode cX2_reads 52 = .ok (.aload_n 0, 1) := dk_42 (dk_at dksX2_reads_2 7 rfl rfl)
theorem dX2_reads_53 : decode cX2_reads 53 = .ok (.getfield 7, 3) := dk_180 0 7 (dk_at dksX2_reads_2 8 rfl rfl)
theorem dX2_reads_56 : decode cX2_reads 56 = .ok (.iconst 0, 1) := dk_3 (dk_at dksX2_reads_2 11 rfl rfl)
theorem dX2_reads_57 : decode cX2_reads 57 = .ok (.aload_n 0, 1) := dk_42 (dk_at dksX2_reads_2 12 rfl rfl)
theorem dX2_reads_58 : decode cX2_reads 58 = .ok (.iconst 3, 1) := dk_6 (dk_at dksX2_reads_2 13 rfl rfl)
theorem dX2_reads_59 : decode cX2_reads 59 = .ok (.bipush 9, 2) := dk_16 9 (dk_at dksX2_reads_2 14 rfl rfl)
theorem dX2_reads_61 : decode cX2_reads 61 = .ok (.invokevirtual 186, 3) := dk_182 0 186 (dk_at dksX2_reads_2 16 rfl rfl)
theorem dX2_reads_64 : decode cX2_reads 64 = .ok (.iastore, 1) := dk_79 (dk_at dksX2_reads_2 19 rfl rfl)
theorem dX2_reads_65 : decode cX2_reads 65 = .ok (.aload_n 0, 1) := dk_42 (dk_at dksX2_reads_2 20 rfl rfl)
theorem dX2_reads_66 : decode cX2_reads 66 = .ok (.getfield 7, 3) := dk_180 0 7 (dk_at dksX2_reads_2 21 rfl rfl)
theorem dX2_reads_69 : decode cX2_reads 69 = .ok (.iconst 1, 1) := dk_4 (dk_at dksX2_reads_3 0 rfl rfl)
theorem dX2_reads_70 : decode cX2_reads 70 = .ok (.aload_n 0, 1) := dk_42 (dk_at dksX2_reads_3 1 rfl rfl)
theorem dX2_reads_71 : decode cX2_reads 71 = .ok (.iconst 5, 1) := dk_8 (dk_at dksX2_reads_3 2 rfl rfl)
theorem dX2_reads_72 : decode cX2_reads 72 = .ok (.bipush 60, 2) := dk_16 60 (dk_at dksX2_reads_3 3 rfl rfl)
theorem dX2_reads_74 : decode cX2_reads 74 = .ok (.invokevirtual 186, 3) := dk_182 0 186 (dk_at dksX2_reads_3 5 rfl rfl)
theorem dX2_reads_77 : decode cX2_reads 77 = .ok (.iastore, 1) := dk_79 (dk_at dksX2_reads_3 8 rfl rfl)
theorem dX2_reads_78 : decode cX2_reads 78 = .ok (.aload_n 0, 1) := dk_42 (dk_at dksX2_reads_3 9 rfl rfl)
theorem dX2_reads_79 : decode cX2_reads 79 = .ok (.getfield 7, 3) := dk_180 0 7 (dk_at dksX2_reads_3 10 rfl rfl)
theorem dX2_reads_82 : decode cX2_reads 82 = .ok (.iconst 2, 1) := dk_5 (dk_at dksX2_reads_3 13 rfl rfl)
theorem dX2_reads_83 : decode cX2_reads 83 = .ok (.aload_n 0, 1) := dk_42 (dk_at dksX2_reads_3 14 rfl rfl)
theorem dX2_reads_84 : decode cX2_reads 84 = .ok (.iconst 1, 1) := dk_4 (dk_at dksX2_reads_3 15 rfl rfl)
theorem dX2_reads_85 : decode cX2_reads 85 = .ok (.bipush 9, 2) := dk_16 9 (dk_at dksX2_reads_3 16 rfl rfl)
theorem dX2_reads_87 : decode cX2_reads 87 = .ok (.invokevirtual 186, 3) := dk_182 0 186 (dk_at dksX2_reads_3 18 rfl rfl)
theorem dX2_reads_90 : decode cX2_reads 90 = .ok (.iastore, 1) := dk_79 (dk_at dksX2_reads_3 21 rfl rfl)
theorem dX2_reads_91 : decode cX2_reads 91 = .ok (.aload_n 0, 1) := dk_42 (dk_at dksX2_reads_3 22 rfl rfl)
theorem dX2_reads_92 : decode cX2_reads 92 = .ok (.getfield 7, 3) := dk_180 0 7 (dk_at dksX2_reads_4 0 rfl rfl)
theorem dX2_reads_95 : decode cX2_reads 95 = .ok (.iconst 3, 1) := dk_6 (dk_at dksX2_reads_4 3 rfl rfl)
theorem dX2_reads_96 : decode cX2_reads 96 = .ok (.aload_n 0, 1) := dk_42 (dk_at dksX2_reads_4 4 rfl rfl)
theorem dX2_reads_97 : decode cX2_reads 97 = .ok (.invokevirtual 183, 3) := dk_182 0 183 (dk_at dksX2_reads_4 5 rfl rfl)
theorem dX2_reads_100 : decode cX2_reads 100 = .ok (.iastore, 1) := dk_79 (dk_at dksX2_reads_4 8 rfl rfl)
theorem dX2_reads_101 : decode cX2_reads 101 = .ok (.aload_n 0, 1) := dk_42 (dk_at dksX2_reads_4 9 rfl rfl)
theorem dX2_reads_102 : decode cX2_reads 102 = .ok (.getfield 7, 3) := dk_180 0 7 (dk_at dksX2_reads_4 10 rfl rfl)
theorem dX2_reads_105 : decode cX2_reads 105 = .ok (.iconst 4, 1) := dk_7 (dk_at dksX2_reads_4 13 rfl rfl)
theorem dX2_reads_106 : decode cX2_reads 106 = .ok (.aload_n 0, 1) := dk_42 (dk_at dksX2_reads_4 14 rfl rfl)
theorem dX2_reads_107 : decode cX2_reads 107 = .ok (.invokevirtual 183, 3) := dk_182 0 183 (dk_at dksX2_reads_4 15 rfl rfl)
theorem dX2_reads_110 : decode cX2_reads 110 = .ok (.iastore, 1) := dk_79 (dk_at dksX2_reads_4 18 rfl rfl)
theorem dX2_reads_111 : decode cX2_reads 111 = .ok (.aload_n 0, 1) := dk_42 (dk_at dksX2_reads_4 19 rfl rfl)
theorem dX2_reads_112 : decode cX2_reads 112 = .ok (.aload_n 0, 1) := dk_42 (dk_at dksX2_reads_4 20 rfl rfl)
theorem dX2_reads_113 : decode cX2_reads 113 = .ok (.getfield 137, 3) := dk_180 0 137 (dk_at dksX2_reads_4 21 rfl rfl)
theorem dX2_reads_116 : decode cX2_reads 116 = .ok (.iconst 3, 1) := dk_6 (dk_at dksX2_reads_5 0 rfl rfl)
theorem dX2_reads_117 : decode cX2_reads 117 = .ok (.if_icmp .eq 7, 3) := dk_159 0 7 (dk_at dksX2_reads_5 1 rfl rfl)
theorem dX2_reads_120 : decode cX2_reads 120 = .ok (.iconst 1, 1) := dk_4 (dk_at dksX2_reads_5 4 rfl rfl)
theorem dX2_reads_121 : decode cX2_reads 121 = .ok (.goto 4, 3) := dk_167 0 4 (dk_at dksX2_reads_5 5 rfl rfl)
theorem dX2_reads_124 : decode cX2_reads 124 = .ok (.iconst 0, 1) := dk_3 (dk_at dksX2_reads_5 8 rfl rfl)
theorem dX2_reads_125 : decode cX2_reads 125 = .ok (.iconst 1, 1) := dk_4 (dk_at dksX2_reads_5 9 rfl rfl)
theorem dX2_reads_126 : decode cX2_reads 126 = .ok (.invokevirtual 189, 3) := dk_182 0 189 (dk_at dksX2_reads_5 10 rfl rfl)
theorem dX2_reads_129 : decode cX2_reads 129 = .ok (.aload_n 0, 1) := dk_42 (dk_at dksX2_reads_5 13 rfl rfl)
theorem dX2_reads_130 : decode cX2_reads 130 = .ok (.invokevirtual 177, 3) := dk_182 0 177 (dk_at dksX2_reads_5 14 rfl rfl)
theorem dX2_reads_133 : decode cX2_reads 133 = .ok (.aload_n 0, 1) := dk_42 (dk_at dksX2_reads_5 17 rfl rfl)
theorem dX2_reads_134 : decode cX2_reads 134 = .ok (.aload_n 0, 1) := dk_42 (dk_at dksX2_reads_5 18 rfl rfl)
theorem dX2_reads_135 : decode cX2_reads 135 = .ok (.ldc 239, 2) := dk_18 239 (dk_at dksX2_reads_5 19 rfl rfl)
theorem dX2_reads_137 : decode cX2_reads 137 = .ok (.invokevirtual 201, 3) := dk_182 0 201 (dk_at dksX2_reads_5 21 rfl rfl)
theorem dX2_reads_140 : decode cX2_reads 140 = .ok (.ifCond .ne 7, 3) := dk_154 0 7 (dk_at dksX2_reads_6 0 rfl rfl)
theorem dX2_reads_143 : decode cX2_reads 143 = .ok (.iconst 1, 1) := dk_4 (dk_at dksX2_reads_6 3 rfl rfl)
theorem dX2_reads_144 : decode cX2_reads 144 = .ok (.goto 4, 3) := dk_167 0 4 (dk_at dksX2_reads_6 4 rfl rfl)
theorem dX2_reads_147 : decode cX2_reads 147 = .ok (.iconst 0, 1) := dk_3 (dk_at dksX2_reads_6 7 rfl rfl)
theorem dX2_reads_148 : decode cX2_reads 148 = .ok (.iconst 1, 1) := dk_4 (dk_at dksX2_reads_6 8 rfl rfl)
theorem dX2_reads_149 : decode cX2_reads 149 = .ok (.invokevirtual 189, 3) := dk_182 0 189 (dk_at dksX2_reads_6 9 rfl rfl)
theorem dX2_reads_152 : decode cX2_reads 152 = .ok (.aload_n 0, 1) := dk_42 (dk_at dksX2_reads_6 12 rfl rfl)
theorem dX2_reads_153 : decode cX2_reads 153 = .ok (.invokevirtual 177, 3) := dk_182 0 177 (dk_at dksX2_reads_6 13 rfl rfl)
theorem dX2_reads_156 : decode cX2_reads 156 = .ok (.aload_n 0, 1) := dk_42 (dk_at dksX2_reads_6 16 rfl rfl)
theorem dX2_reads_157 : decode cX2_reads 157 = .ok (.getfield 7, 3) := dk_180 0 7 (dk_at dksX2_reads_6 17 rfl rfl)
theorem dX2_reads_160 : decode cX2_reads 160 = .ok (.iconst 5, 1) := dk_8 (dk_at dksX2_reads_6 20 rfl rfl)
theorem dX2_reads_161 : decode cX2_reads 161 = .ok (.aload_n 0, 1) := dk_42 (dk_at dksX2_reads_6 21 rfl rfl)
theorem dX2_reads_162 : decode cX2_reads 162 = .ok (.iconst 1, 1) := dk_4 (dk_at dksX2_reads_6 22 rfl rfl)
theorem dX2_reads_163 : decode cX2_reads 163 = .ok (.sipush 200, 3) := dk_17 0 200 (dk_at dksX2_reads_7 0 rfl rfl)
theorem dX2_reads_166 : decode cX2_reads 166 = .ok (.invokevirtual 186, 3) := dk_182 0 186 (dk_at dksX2_reads_7 3 rfl rfl)
theorem dX2_reads_169 : decode cX2_reads 169 = .ok (.iastore, 1) := dk_79 (dk_at dksX2_reads_7 6 rfl rfl)
theorem dX2_reads_170 : decode cX2_reads 170 = .ok (.aload_n 0, 1) := dk_42 (dk_at dksX2_reads_7 7 rfl rfl)
theorem dX2_reads_171 : decode cX2_reads 171 = .ok (.getfield 7, 3) := dk_180 0 7 (dk_at dksX2_reads_7 8 rfl rfl)
theorem dX2_reads_174 : decode cX2_reads 174 = .ok (.bipush 6, 2) := dk_16 6 (dk_at dksX2_reads_7 11 rfl rfl)
theorem dX2_reads_176 : decode cX2_reads 176 = .ok (.aload_n 0, 1) := dk_42 (dk_at dksX2_reads_7 13 rfl rfl)
theorem dX2_reads_177 : decode cX2_reads 177 = .ok (.iconst 1, 1) := dk_4 (dk_at dksX2_reads_7 14 rfl rfl)
theorem dX2_reads_178 : decode cX2_reads 178 = .ok (.bipush 99, 2) := dk_16 99 (dk_at dksX2_reads_7 15 rfl rfl)
theorem dX2_reads_180 : decode cX2_reads 180 = .ok (.invokevirtual 186, 3) := dk_182 0 186 (dk_at dksX2_reads_7 17 rfl rfl)
theorem dX2_reads_183 : decode cX2_reads 183 = .ok (.iastore, 1) := dk_79 (dk_at dksX2_reads_7 20 rfl rfl)
theorem dX2_reads_184 : decode cX2_reads 184 = .ok (.aload_n 0, 1) := dk_42 (dk_at dksX2_reads_7 21 rfl rfl)
theorem dX2_reads_185 : decode cX2_reads 185 = .ok (.getfield 7, 3) := dk_180 0 7 (dk_at dksX2_reads_8 0 rfl rfl)
theorem dX2_reads_188 : decode cX2_reads 188 = .ok (.bipush 7, 2) := dk_16 7 (dk_at dksX2_reads_8 3 rfl rfl)
theorem dX2_reads_190 : decode cX2_reads 190 = .ok (.aload_n 0, 1) := dk_42 (dk_at dksX2_reads_8 5 rfl rfl)
theorem dX2_reads_191 : decode cX2_reads 191 = .ok (.iconst 0, 1) := dk_3 (dk_at dksX2_reads_8 6 rfl rfl)
theorem dX2_reads_192 : decode cX2_reads 192 = .ok (.bipush 30, 2) := dk_16 30 (dk_at dksX2_reads_8 7 rfl rfl)
theorem dX2_reads_194 : decode cX2_reads 194 = .ok (.invokevirtual 186, 3) := dk_182 0 186 (dk_at dksX2_reads_8 9 rfl rfl)
theorem dX2_reads_197 : decode cX2_reads 197 = .ok (.iastore, 1) := dk_79 (dk_at dksX2_reads_8 12 rfl rfl)
theorem dX2_reads_198 : decode cX2_reads 198 = .ok (.aload_n 0, 1) := dk_42 (dk_at dksX2_reads_8 13 rfl rfl)
theorem dX2_reads_199 : decode cX2_reads 199 = .ok (.getfield 7, 3) := dk_180 0 7 (dk_at dksX2_reads_8 14 rfl rfl)
theorem dX2_reads_202 : decode cX2_reads 202 = .ok (.bipush 8, 2) := dk_16 8 (dk_at dksX2_reads_8 17 rfl rfl)
theorem dX2_reads_204 : decode cX2_reads 204 = .ok (.aload_n 0, 1) := dk_42 (dk_at dksX2_reads_8 19 rfl rfl)
theorem dX2_reads_205 : decode cX2_reads 205 = .ok (.iconst 1, 1) := dk_4 (dk_at dksX2_reads_8 20 rfl rfl)
theorem dX2_reads_206 : decode cX2_reads 206 = .ok (.iconst 5, 1) := dk_8 (dk_at dksX2_reads_8 21 rfl rfl)
theorem dX2_reads_207 : decode cX2_reads 207 = .ok (.invokevirtual 186, 3) := dk_182 0 186 (dk_at dksX2_reads_9 0 rfl rfl)
theorem dX2_reads_210 : decode cX2_reads 210 = .ok (.iastore, 1) := dk_79 (dk_at dksX2_reads_9 3 rfl rfl)
theorem dX2_reads_211 : decode cX2_reads 211 = .ok (.aload_n 0, 1) := dk_42 (dk_at dksX2_reads_9 4 rfl rfl)
theorem dX2_reads_212 : decode cX2_reads 212 = .ok (.getfield 149, 3) := dk_180 0 149 (dk_at dksX2_reads_9 5 rfl rfl)
theorem dX2_reads_215 : decode cX2_reads 215 = .ok (.ifCond .ne 22, 3) := dk_154 0 22 (dk_at dksX2_reads_9 8 rfl rfl)
theorem dX2_reads_218 : decode cX2_reads 218 = .ok (.aload_n 0, 1) := dk_42 (dk_at dksX2_reads_9 11 rfl rfl)
theorem dX2_reads_219 : decode cX2_reads 219 = .ok (.getfield 137, 3) := dk_180 0 137 (dk_at dksX2_reads_9 12 rfl rfl)
theorem dX2_reads_222 : decode cX2_reads 222 = .ok (.iconst 3, 1) := dk_6 (dk_at dksX2_reads_9 15 rfl rfl)
theorem dX2_reads_223 : decode cX2_reads 223 = .ok (.if_icmp .ne 14, 3) := dk_160 0 14 (dk_at dksX2_reads_9 16 rfl rfl)
theorem dX2_reads_226 : decode cX2_reads 226 = .ok (.aload_n 0, 1) := dk_42 (dk_at dksX2_reads_9 19 rfl rfl)
theorem dX2_reads_227 : decode cX2_reads 227 = .ok (.invokevirtual 159, 3) := dk_182 0 159 (dk_at dksX2_reads_9 20 rfl rfl)
theorem dX2_reads_230 : decode cX2_reads 230 = .ok (.aload_n 0, 1) := dk_42 (dk_at dksX2_reads_9 23 rfl rfl)
theorem dX2_reads_231 : decode cX2_reads 231 = .ok (.invokevirtual 241, 3) := dk_182 0 241 (dk_at dksX2_reads_10 0 rfl rfl)
theorem dX2_reads_234 : decode cX2_reads 234 = .ok (.goto (-23), 3) := dk_167 255 233 (dk_at dksX2_reads_10 3 rfl rfl)
theorem dX2_reads_237 : decode cX2_reads 237 = .ok (.aload_n 0, 1) := dk_42 (dk_at dksX2_reads_10 6 rfl rfl)
theorem dX2_reads_238 : decode cX2_reads 238 = .ok (.aload_n 0, 1) := dk_42 (dk_at dksX2_reads_10 7 rfl rfl)
theorem dX2_reads_239 : decode cX2_reads 239 = .ok (.getfield 137, 3) := dk_180 0 137 (dk_at dksX2_reads_10 8 rfl rfl)
theorem dX2_reads_242 : decode cX2_reads 242 = .ok (.ifCond .eq 7, 3) := dk_153 0 7 (dk_at dksX2_reads_10 11 rfl rfl)
theorem dX2_reads_245 : decode cX2_reads 245 = .ok (.iconst 1, 1) := dk_4 (dk_at dksX2_reads_10 14 rfl rfl)
theorem dX2_reads_246 : decode cX2_reads 246 = .ok (.goto 4, 3) := dk_167 0 4 (dk_at dksX2_reads_10 15 rfl rfl)
theorem dX2_reads_249 : decode cX2_reads 249 = .ok (.iconst 0, 1) := dk_3 (dk_at dksX2_reads_10 18 rfl rfl)
theorem dX2_reads_250 : decode cX2_reads 250 = .ok (.iconst 1, 1) := dk_4 (dk_at dksX2_reads_10 19 rfl rfl)
theorem dX2_reads_251 : decode cX2_reads 251 = .ok (.invokevirtual 189, 3) := dk_182 0 189 (dk_at dksX2_reads_10 20 rfl rfl)
theorem dX2_reads_254 : decode cX2_reads 254 = .ok (.return_, 1) := dk_177 (dk_at dksX2_reads_10 23 rfl rfl)
abbrev cX2_isWord : ByteArray := prog_10_method_47_code
def yX2_isWord : MethodName := ⟨RX2, "isWord", "(Ljava/lang/String;)Z"⟩
def dkwX2_isWord_2 : List UInt8 := [28, 96, 182, 0, 131, 43, 28, 182, 0, 166, 159, 0, 5, 3, 172, 132, 2, 1, 167, 255, 225, 4, 172]
abbrev dktX2_isWord_2 : List UInt8 := dkwX2_isWord_2 ++ []
def dkwX2_isWord_1 : List UInt8 := [43, 182, 0, 162, 159, 0, 5, 3, 172, 3, 61, 28, 43, 182, 0, 162, 162, 0, 29, 42, 42, 180, 0, 134]
abbrev dktX2_isWord_1 : List UInt8 := dkwX2_isWord_1 ++ dktX2_isWord_2
def dkwX2_isWord_0 : List UInt8 := [42, 180, 0, 149, 154, 0, 27, 42, 180, 0, 137, 4, 160, 0, 19, 42, 180, 0, 128, 42, 180, 0, 134, 100]
abbrev dktX2_isWord_0 : List UInt8 := dkwX2_isWord_0 ++ dktX2_isWord_1
theorem dksX2_isWord_0 : cX2_isWord.data.toList.drop 0 = dktX2_isWord_0 := by decide +kernel
theorem dksX2_isWord_1 : cX2_isWord.data.toList.drop 24 = dktX2_isWord_1 := dk_seg dksX2_isWord_0 24 rfl rfl
theorem dksX2_isWord_2 : cX2_isWord.data.toList.drop 48 = dktX2_isWord_2 := dk_seg dksX2_isWord_1 24 rfl rfl
theorem dX2_isWord_0 : decode cX2_isWord 0 = .ok (.aload_n 0, 1) := dk_42 (dk_at dksX2_isWord_0 0 rfl rfl)
theorem dX2_isWord_1 : decode cX2_isWord 1 = .ok (.getfield 149, 3) := dk_180 0 149 (dk_at dksX2_isWord_0 1 rfl rfl)
theorem dX2_isWord_4 : decode cX2_isWord 4 = .ok (.ifCond .ne 27, 3) := dk_154 0 27 (dk_at dksX2_isWord_0 4 rfl rfl)
theorem dX2_isWord_7 : decode cX2_isWord 7 = .ok (.aload_n 0, 1) := dk_42 (dk_at dksX2_isWord_0 7 rfl rfl)
theorem dX2_isWord_8 : decode cX2_isWord 8 = .ok (.getfield 137, 3) := dk_180 0 137 (dk_at dksX2_isWord_0 8 rfl rfl)
theorem dX2_isWord_11 : decode cX2_isWord 11 = .ok (.iconst 1, 1) := dk_4 (dk_at dksX2_isWord_0 11 rfl rfl)
theorem dX2_isWord_12 : decode cX2_isWord 12 = .ok (.if_icmp .ne 19, 3) := dk_160 0 19 (dk_at dksX2_isWord_0 12 rfl rfl)
theorem dX2_isWord_15 : decode cX2_isWord 15 = .ok (.aload_n 0, 1) := dk_42 (dk_at dksX2_isWord_0 15 rfl rfl)
theorem dX2_isWord_16 : decode cX2_isWord 16 = .ok (.getfield 128, 3) := dk_180 0 128 (dk_at dksX2_isWord_0 16 rfl rfl)
theorem dX2_isWord_19 : decode cX2_isWord 19 = .ok (.aload_n 0, 1) := dk_42 (dk_at dksX2_isWord_0 19 rfl rfl)
theorem dX2_isWord_20 : decode cX2_isWord 20 = .ok (.getfield 134, 3) := dk_180 0 134 (dk_at dksX2_isWord_0 20 rfl rfl)
theorem dX2_isWord_23 : decode cX2_isWord 23 = .ok (.isub, 1) := dk_100 (dk_at dksX2_isWord_0 23 rfl rfl)
theorem dX2_isWord_24 : decode cX2_isWord 24 = .ok (.aload_n 1, 1) := dk_43 (dk_at dksX2_isWord_1 0 rfl rfl)
theorem dX2_isWord_25 : decode cX2_isWord 25 = .ok (.invokevirtual 162, 3) := dk_182 0 162 (dk_at dksX2_isWord_1 1 rfl rfl)
theorem dX2_isWord_28 : decode cX2_isWord 28 = .ok (.if_icmp .eq 5, 3) := dk_159 0 5 (dk_at dksX2_isWord_1 4 rfl rfl)
theorem dX2_isWord_31 : decode cX2_isWord 31 = .ok (.iconst 0, 1) := dk_3 (dk_at dksX2_isWord_1 7 rfl rfl)
theorem dX2_isWord_32 : decode cX2_isWord 32 = .ok (.ireturn, 1) := dk_172 (dk_at dksX2_isWord_1 8 rfl rfl)
theorem dX2_isWord_33 : decode cX2_isWord 33 = .ok (.iconst 0, 1) := dk_3 (dk_at dksX2_isWord_1 9 rfl rfl)
theorem dX2_isWord_34 : decode cX2_isWord 34 = .ok (.istore_n 2, 1) := dk_61 (dk_at dksX2_isWord_1 10 rfl rfl)
theorem dX2_isWord_35 : decode cX2_isWord 35 = .ok (.iload_n 2, 1) := dk_28 (dk_at dksX2_isWord_1 11 rfl rfl)
theorem dX2_isWord_36 : decode cX2_isWord 36 = .ok (.aload_n 1, 1) := dk_43 (dk_at dksX2_isWord_1 12 rfl rfl)
theorem dX2_isWord_37 : decode cX2_isWord 37 = .ok (.invokevirtual 162, 3) := dk_182 0 162 (dk_at dksX2_isWord_1 13 rfl rfl)
theorem dX2_isWord_40 : decode cX2_isWord 40 = .ok (.if_icmp .ge 29, 3) := dk_162 0 29 (dk_at dksX2_isWord_1 16 rfl rfl)
theorem dX2_isWord_43 : decode cX2_isWord 43 = .ok (.aload_n 0, 1) := dk_42 (dk_at dksX2_isWord_1 19 rfl rfl)
theorem dX2_isWord_44 : decode cX2_isWord 44 = .ok (.aload_n 0, 1) := dk_42 (dk_at dksX2_isWord_1 20 rfl rfl)
theorem dX2_isWord_45 : decode cX2_isWord 45 = .ok (.getfield 134, 3) := dk_180 0 134 (dk_at dksX2_isWord_1 21 rfl rfl)
theorem dX2_isWord_48 : decode cX2_isWord 48 = .ok (.iload_n 2, 1) := dk_28 (dk_at dksX2_isWord_2 0 rfl rfl)
theorem dX2_isWord_49 : decode cX2_isWord 49 = .ok (.iadd, 1) := dk_96 (dk_at dksX2_isWord_2 1 rfl rfl)
theorem dX2_isWord_50 : decode cX2_isWord 50 = .ok (.invokevirtual 131, 3) := dk_182 0 131 (dk_at dksX2_isWord_2 2 rfl rfl)
theorem dX2_isWord_53 : decode cX2_isWord 53 = .ok (.aload_n 1, 1) := dk_43 (dk_at dksX2_isWord_2 5 rfl rfl)
theorem dX2_isWord_54 : decode cX2_isWord 54 = .ok (.iload_n 2, 1) := dk_28 (dk_at dksX2_isWord_2 6 rfl rfl)
theorem dX2_isWord_55 : decode cX2_isWord 55 = .ok (.invokevirtual 166, 3) := dk_182 0 166 (dk_at dksX2_isWord_2 7 rfl rfl)
theorem dX2_isWord_58 : decode cX2_isWord 58 = .ok (.if_icmp .eq 5, 3) := dk_159 0 5 (dk_at dksX2_isWord_2 10 rfl rfl)
theorem dX2_isWord_61 : decode cX2_isWord 61 = .ok (.iconst 0, 1) := dk_3 (dk_at dksX2_isWord_2 13 rfl rfl)
theorem dX2_isWord_62 : decode cX2_isWord 62 = .ok (.ireturn, 1) := dk_172 (dk_at dksX2_isWord_2 14 rfl rfl)
theorem dX2_isWord_63 : decode cX2_isWord 63 = .ok (.iinc 2 1, 3) := dk_132 2 1 (dk_at dksX2_isWord_2 15 rfl rfl)
theorem dX2_isWord_66 : decode cX2_isWord 66 = .ok (.goto (-31), 3) := dk_167 255 225 (dk_at dksX2_isWord_2 18 rfl rfl)
theorem dX2_isWord_69 : decode cX2_isWord 69 = .ok (.iconst 1, 1) := dk_4 (dk_at dksX2_isWord_2 21 rfl rfl)
theorem dX2_isWord_70 : decode cX2_isWord 70 = .ok (.ireturn, 1) := dk_172 (dk_at dksX2_isWord_2 22 rfl rfl)
abbrev cX2_failsIf : ByteArray := prog_10_method_45_code
def yX2_failsIf : MethodName := ⟨RX2, "failsIf", "(ZI)V"⟩
def dkwX2_failsIf_0 : List UInt8 := [27, 153, 0, 8, 42, 28, 182, 0, 155, 177]
abbrev dktX2_failsIf_0 : List UInt8 := dkwX2_failsIf_0 ++ []
theorem dksX2_failsIf_0 : cX2_failsIf.data.toList.drop 0 = dktX2_failsIf_0 := by decide +kernel
theorem dX2_failsIf_0 : decode cX2_failsIf 0 = .ok (.iload_n 1, 1) := dk_27 (dk_at dksX2_failsIf_0 0 rfl rfl)
theorem dX2_failsIf_1 : decode cX2_failsIf 1 = .ok (.ifCond .eq 8, 3) := dk_153 0 8 (dk_at dksX2_failsIf_0 1 rfl rfl)
theorem dX2_failsIf_4 : decode cX2_failsIf 4 = .ok (.aload_n 0, 1) := dk_42 (dk_at dksX2_failsIf_0 4 rfl rfl)
theorem dX2_failsIf_5 : decode cX2_failsIf 5 = .ok (.iload_n 2, 1) := dk_28 (dk_at dksX2_failsIf_0 5 rfl rfl)
theorem dX2_failsIf_6 : decode cX2_failsIf 6 = .ok (.invokevirtual 155, 3) := dk_182 0 155 (dk_at dksX2_failsIf_0 6 rfl rfl)
theorem dX2_failsIf_9 : decode cX2_failsIf 9 = .ok (.return_, 1) := dk_177 (dk_at dksX2_failsIf_0 9 rfl rfl)
abbrev cX2_fails : ByteArray := prog_10_method_44_code
def yX2_fails : MethodName := ⟨RX2, "fails", "(I)V"⟩
def dkwX2_fails_0 : List UInt8 := [42, 180, 0, 149, 154, 0, 16, 42, 27, 181, 0, 149, 42, 42, 180, 0, 134, 181, 0, 152, 177]
abbrev dktX2_fails_0 : List UInt8 := dkwX2_fails_0 ++ []
theorem dksX2_fails_0 : cX2_fails.data.toList.drop 0 = dktX2_fails_0 := by decide +kernel
theorem dX2_fails_0 : decode cX2_fails 0 = .ok (.aload_n 0, 1) := dk_42 (dk_at dksX2_fails_0 0 rfl rfl)
theorem dX2_fails_1 : decode cX2_fails 1 = .ok (.getfield 149, 3) := dk_180 0 149 (dk_at dksX2_fails_0 1 rfl rfl)
theorem dX2_fails_4 : decode cX2_fails 4 = .ok (.ifCond .ne 16, 3) := dk_154 0 16 (dk_at dksX2_fails_0 4 rfl rfl)
theorem dX2_fails_7 : decode cX2_fails 7 = .ok (.aload_n 0, 1) := dk_42 (dk_at dksX2_fails_0 7 rfl rfl)
theorem dX2_fails_8 : decode cX2_fails 8 = .ok (.iload_n 1, 1) := dk_27 (dk_at dksX2_fails_0 8 rfl rfl)
theorem dX2_fails_9 : decode cX2_fails 9 = .ok (.putfield 149, 3) := dk_181 0 149 (dk_at dksX2_fails_0 9 rfl rfl)
theorem dX2_fails_12 : decode cX2_fails 12 = .ok (.aload_n 0, 1) := dk_42 (dk_at dksX2_fails_0 12 rfl rfl)
theorem dX2_fails_13 : decode cX2_fails 13 = .ok (.aload_n 0, 1) := dk_42 (dk_at dksX2_fails_0 13 rfl rfl)
theorem dX2_fails_14 : decode cX2_fails 14 = .ok (.getfield 134, 3) := dk_180 0 134 (dk_at dksX2_fails_0 14 rfl rfl)
theorem dX2_fails_17 : decode cX2_fails 17 = .ok (.putfield 152, 3) := dk_181 0 152 (dk_at dksX2_fails_0 17 rfl rfl)
theorem dX2_fails_20 : decode cX2_fails 20 = .ok (.return_, 1) := dk_177 (dk_at dksX2_fails_0 20 rfl rfl)
abbrev cX2_goesOn : ByteArray := prog_10_method_46_code
def yX2_goesOn : MethodName := ⟨RX2, "goesOn", "()V"⟩
def dkwX2_goesOn_0 : List UInt8 := [42, 180, 0, 149, 154, 0, 7, 42, 182, 0, 159, 177]
abbrev dktX2_goesOn_0 : List UInt8 := dkwX2_goesOn_0 ++ []
theorem dksX2_goesOn_0 : cX2_goesOn.data.toList.drop 0 = dktX2_goesOn_0 := by decide +kernel
theorem dX2_goesOn_0 : decode cX2_goesOn 0 = .ok (.aload_n 0, 1) := dk_42 (dk_at dksX2_goesOn_0 0 rfl rfl)
theorem dX2_goesOn_1 : decode cX2_goesOn 1 = .ok (.getfield 149, 3) := dk_180 0 149 (dk_at dksX2_goesOn_0 1 rfl rfl)
theorem dX2_goesOn_4 : decode cX2_goesOn 4 = .ok (.ifCond .ne 7, 3) := dk_154 0 7 (dk_at dksX2_goesOn_0 4 rfl rfl)
theorem dX2_goesOn_7 : decode cX2_goesOn 7 = .ok (.aload_n 0, 1) := dk_42 (dk_at dksX2_goesOn_0 7 rfl rfl)
theorem dX2_goesOn_8 : decode cX2_goesOn 8 = .ok (.invokevirtual 159, 3) := dk_182 0 159 (dk_at dksX2_goesOn_0 8 rfl rfl)
theorem dX2_goesOn_11 : decode cX2_goesOn 11 = .ok (.return_, 1) := dk_177 (dk_at dksX2_goesOn_0 11 rfl rfl)
abbrev cX2_takes : ByteArray := prog_10_method_49_code
def yX2_takes : MethodName := ⟨RX2, "takes", "(II)I"⟩
def dkwX2_takes_0 : List UInt8 := [42, 27, 28, 182, 0, 174, 62, 42, 182, 0, 177, 29, 172]
abbrev dktX2_takes_0 : List UInt8 := dkwX2_takes_0 ++ []
theorem dksX2_takes_0 : cX2_takes.data.toList.drop 0 = dktX2_takes_0 := by decide +kernel
theorem dX2_takes_0 : decode cX2_takes 0 = .ok (.aload_n 0, 1) := dk_42 (dk_at dksX2_takes_0 0 rfl rfl)
theorem dX2_takes_1 : decode cX2_takes 1 = .ok (.iload_n 1, 1) := dk_27 (dk_at dksX2_takes_0 1 rfl rfl)
theorem dX2_takes_2 : decode cX2_takes 2 = .ok (.iload_n 2, 1) := dk_28 (dk_at dksX2_takes_0 2 rfl rfl)
theorem dX2_takes_3 : decode cX2_takes 3 = .ok (.invokevirtual 174, 3) := dk_182 0 174 (dk_at dksX2_takes_0 3 rfl rfl)
theorem dX2_takes_6 : decode cX2_takes 6 = .ok (.istore_n 3, 1) := dk_62 (dk_at dksX2_takes_0 6 rfl rfl)
theorem dX2_takes_7 : decode cX2_takes 7 = .ok (.aload_n 0, 1) := dk_42 (dk_at dksX2_takes_0 7 rfl rfl)
theorem dX2_takes_8 : decode cX2_takes 8 = .ok (.invokevirtual 177, 3) := dk_182 0 177 (dk_at dksX2_takes_0 8 rfl rfl)
theorem dX2_takes_11 : decode cX2_takes 11 = .ok (.iload_n 3, 1) := dk_29 (dk_at dksX2_takes_0 11 rfl rfl)
theorem dX2_takes_12 : decode cX2_takes 12 = .ok (.ireturn, 1) := dk_172 (dk_at dksX2_takes_0 12 rfl rfl)
abbrev cX2_looks : ByteArray := prog_10_method_48_code
def yX2_looks : MethodName := ⟨RX2, "looks", "(II)I"⟩
def dkwX2_looks_2 : List UInt8 := [180, 0, 146, 172]
abbrev dktX2_looks_2 : List UInt8 := dkwX2_looks_2 ++ []
def dkwX2_looks_1 : List UInt8 := [133, 184, 0, 170, 154, 0, 8, 42, 5, 182, 0, 155, 42, 180, 0, 149, 153, 0, 7, 27, 167, 0, 7, 42]
abbrev dktX2_looks_1 : List UInt8 := dkwX2_looks_1 ++ dktX2_looks_2
def dkwX2_looks_0 : List UInt8 := [42, 180, 0, 137, 5, 159, 0, 11, 42, 4, 182, 0, 155, 167, 0, 23, 42, 180, 0, 146, 133, 27, 133, 28]
abbrev dktX2_looks_0 : List UInt8 := dkwX2_looks_0 ++ dktX2_looks_1
theorem dksX2_looks_0 : cX2_looks.data.toList.drop 0 = dktX2_looks_0 := by decide +kernel
theorem dksX2_looks_1 : cX2_looks.data.toList.drop 24 = dktX2_looks_1 := dk_seg dksX2_looks_0 24 rfl rfl
theorem dksX2_looks_2 : cX2_looks.data.toList.drop 48 = dktX2_looks_2 := dk_seg dksX2_looks_1 24 rfl rfl
theorem dX2_looks_0 : decode cX2_looks 0 = .ok (.aload_n 0, 1) := dk_42 (dk_at dksX2_looks_0 0 rfl rfl)
theorem dX2_looks_1 : decode cX2_looks 1 = .ok (.getfield 137, 3) := dk_180 0 137 (dk_at dksX2_looks_0 1 rfl rfl)
theorem dX2_looks_4 : decode cX2_looks 4 = .ok (.iconst 2, 1) := dk_5 (dk_at dksX2_looks_0 4 rfl rfl)
theorem dX2_looks_5 : decode cX2_looks 5 = .ok (.if_icmp .eq 11, 3) := dk_159 0 11 (dk_at dksX2_looks_0 5 rfl rfl)
theorem dX2_looks_8 : decode cX2_looks 8 = .ok (.aload_n 0, 1) := dk_42 (dk_at dksX2_looks_0 8 rfl rfl)
theorem dX2_looks_9 : decode cX2_looks 9 = .ok (.iconst 1, 1) := dk_4 (dk_at dksX2_looks_0 9 rfl rfl)
theorem dX2_looks_10 : decode cX2_looks 10 = .ok (.invokevirtual 155, 3) := dk_182 0 155 (dk_at dksX2_looks_0 10 rfl rfl)
theorem dX2_looks_13 : decode cX2_looks 13 = .ok (.goto 23, 3) := dk_167 0 23 (dk_at dksX2_looks_0 13 rfl rfl)
theorem dX2_looks_16 : decode cX2_looks 16 = .ok (.aload_n 0, 1) := dk_42 (dk_at dksX2_looks_0 16 rfl rfl)
theorem dX2_looks_17 : decode cX2_looks 17 = .ok (.getfield 146, 3) := dk_180 0 146 (dk_at dksX2_looks_0 17 rfl rfl)
theorem dX2_looks_20 : decode cX2_looks 20 = .ok (.i2l, 1) := dk_133 (dk_at dksX2_looks_0 20 rfl rfl)
theorem dX2_looks_21 : decode cX2_looks 21 = .ok (.iload_n 1, 1) := dk_27 (dk_at dksX2_looks_0 21 rfl rfl)
theorem dX2_looks_22 : decode cX2_looks 22 = .ok (.i2l, 1) := dk_133 (dk_at dksX2_looks_0 22 rfl rfl)
theorem dX2_looks_23 : decode cX2_looks 23 = .ok (.iload_n 2, 1) := dk_28 (dk_at dksX2_looks_0 23 rfl rfl)
theorem dX2_looks_24 : decode cX2_looks 24 = .ok (.i2l, 1) := dk_133 (dk_at dksX2_looks_1 0 rfl rfl)
theorem dX2_looks_25 : decode cX2_looks 25 = .ok (.invokestatic 170, 3) := dk_184 0 170 (dk_at dksX2_looks_1 1 rfl rfl)
theorem dX2_looks_28 : decode cX2_looks 28 = .ok (.ifCond .ne 8, 3) := dk_154 0 8 (dk_at dksX2_looks_1 4 rfl rfl)
theorem dX2_looks_31 : decode cX2_looks 31 = .ok (.aload_n 0, 1) := dk_42 (dk_at dksX2_looks_1 7 rfl rfl)
theorem dX2_looks_32 : decode cX2_looks 32 = .ok (.iconst 2, 1) := dk_5 (dk_at dksX2_looks_1 8 rfl rfl)
theorem dX2_looks_33 : decode cX2_looks 33 = .ok (.invokevirtual 155, 3) := dk_182 0 155 (dk_at dksX2_looks_1 9 rfl rfl)
theorem dX2_looks_36 : decode cX2_looks 36 = .ok (.aload_n 0, 1) := dk_42 (dk_at dksX2_looks_1 12 rfl rfl)
theorem dX2_looks_37 : decode cX2_looks 37 = .ok (.getfield 149, 3) := dk_180 0 149 (dk_at dksX2_looks_1 13 rfl rfl)
theorem dX2_looks_40 : decode cX2_looks 40 = .ok (.ifCond .eq 7, 3) := dk_153 0 7 (dk_at dksX2_looks_1 16 rfl rfl)
theorem dX2_looks_43 : decode cX2_looks 43 = .ok (.iload_n 1, 1) := dk_27 (dk_at dksX2_looks_1 19 rfl rfl)
theorem dX2_looks_44 : decode cX2_looks 44 = .ok (.goto 7, 3) := dk_167 0 7 (dk_at dksX2_looks_1 20 rfl rfl)
theorem dX2_looks_47 : decode cX2_looks 47 = .ok (.aload_n 0, 1) := dk_42 (dk_at dksX2_looks_1 23 rfl rfl)
theorem dX2_looks_48 : decode cX2_looks 48 = .ok (.getfield 146, 3) := dk_180 0 146 (dk_at dksX2_looks_2 0 rfl rfl)
theorem dX2_looks_51 : decode cX2_looks 51 = .ok (.ireturn, 1) := dk_172 (dk_at dksX2_looks_2 3 rfl rfl)
abbrev cX2_column0 : ByteArray := prog_10_method_51_code
def yX2_column0 : MethodName := ⟨RX2, "column0", "()I"⟩
def dkwX2_column0_0 : List UInt8 := [42, 182, 0, 180, 60, 42, 182, 0, 177, 27, 172]
abbrev dktX2_column0_0 : List UInt8 := dkwX2_column0_0 ++ []
theorem dksX2_column0_0 : cX2_column0.data.toList.drop 0 = dktX2_column0_0 := by decide +kernel
theorem dX2_column0_0 : decode cX2_column0 0 = .ok (.aload_n 0, 1) := dk_42 (dk_at dksX2_column0_0 0 rfl rfl)
theorem dX2_column0_1 : decode cX2_column0 1 = .ok (.invokevirtual 180, 3) := dk_182 0 180 (dk_at dksX2_column0_0 1 rfl rfl)
theorem dX2_column0_4 : decode cX2_column0 4 = .ok (.istore_n 1, 1) := dk_60 (dk_at dksX2_column0_0 4 rfl rfl)
theorem dX2_column0_5 : decode cX2_column0 5 = .ok (.aload_n 0, 1) := dk_42 (dk_at dksX2_column0_0 5 rfl rfl)
theorem dX2_column0_6 : decode cX2_column0 6 = .ok (.invokevirtual 177, 3) := dk_182 0 177 (dk_at dksX2_column0_0 6 rfl rfl)
theorem dX2_column0_9 : decode cX2_column0 9 = .ok (.iload_n 1, 1) := dk_27 (dk_at dksX2_column0_0 9 rfl rfl)
theorem dX2_column0_10 : decode cX2_column0 10 = .ok (.ireturn, 1) := dk_172 (dk_at dksX2_column0_0 10 rfl rfl)
abbrev cX2_columnHere : ByteArray := prog_10_method_50_code
def yX2_columnHere : MethodName := ⟨RX2, "columnHere", "()I"⟩
def dkwX2_columnHere_0 : List UInt8 := [42, 3, 42, 182, 0, 45, 4, 100, 182, 0, 174, 172]
abbrev dktX2_columnHere_0 : List UInt8 := dkwX2_columnHere_0 ++ []
theorem dksX2_columnHere_0 : cX2_columnHere.data.toList.drop 0 = dktX2_columnHere_0 := by decide +kernel
theorem dX2_columnHere_0 : decode cX2_columnHere 0 = .ok (.aload_n 0, 1) := dk_42 (dk_at dksX2_columnHere_0 0 rfl rfl)
theorem dX2_columnHere_1 : decode cX2_columnHere 1 = .ok (.iconst 0, 1) := dk_3 (dk_at dksX2_columnHere_0 1 rfl rfl)
theorem dX2_columnHere_2 : decode cX2_columnHere 2 = .ok (.aload_n 0, 1) := dk_42 (dk_at dksX2_columnHere_0 2 rfl rfl)
theorem dX2_columnHere_3 : decode cX2_columnHere 3 = .ok (.invokevirtual 45, 3) := dk_182 0 45 (dk_at dksX2_columnHere_0 3 rfl rfl)
theorem dX2_columnHere_6 : decode cX2_columnHere 6 = .ok (.iconst 1, 1) := dk_4 (dk_at dksX2_columnHere_0 6 rfl rfl)
theorem dX2_columnHere_7 : decode cX2_columnHere 7 = .ok (.isub, 1) := dk_100 (dk_at dksX2_columnHere_0 7 rfl rfl)
theorem dX2_columnHere_8 : decode cX2_columnHere 8 = .ok (.invokevirtual 174, 3) := dk_182 0 174 (dk_at dksX2_columnHere_0 8 rfl rfl)
theorem dX2_columnHere_11 : decode cX2_columnHere 11 = .ok (.ireturn, 1) := dk_172 (dk_at dksX2_columnHere_0 11 rfl rfl)
abbrev cX2_columns : ByteArray := prog_10_method_10_code
def yX2_columns : MethodName := ⟨RX2, "columns", "()I"⟩
def dkwX2_columns_0 : List UInt8 := [42, 180, 0, 7, 3, 46, 172]
abbrev dktX2_columns_0 : List UInt8 := dkwX2_columns_0 ++ []
theorem dksX2_columns_0 : cX2_columns.data.toList.drop 0 = dktX2_columns_0 := by decide +kernel
theorem dX2_columns_0 : decode cX2_columns 0 = .ok (.aload_n 0, 1) := dk_42 (dk_at dksX2_columns_0 0 rfl rfl)
theorem dX2_columns_1 : decode cX2_columns 1 = .ok (.getfield 7, 3) := dk_180 0 7 (dk_at dksX2_columns_0 1 rfl rfl)
theorem dX2_columns_4 : decode cX2_columns 4 = .ok (.iconst 0, 1) := dk_3 (dk_at dksX2_columns_0 4 rfl rfl)
theorem dX2_columns_5 : decode cX2_columns 5 = .ok (.iaload, 1) := dk_46 (dk_at dksX2_columns_0 5 rfl rfl)
theorem dX2_columns_6 : decode cX2_columns 6 = .ok (.ireturn, 1) := dk_172 (dk_at dksX2_columns_0 6 rfl rfl)
abbrev cX2_line : ByteArray := prog_10_method_56_code
def yX2_line : MethodName := ⟨RX2, "line", "()V"⟩
def dkwX2_line_10 : List UInt8 := [180, 0, 7, 16, 9, 46, 79, 167, 0, 8, 42, 4, 182, 0, 155, 177]
abbrev dktX2_line_10 : List UInt8 := dkwX2_line_10 ++ []
def dkwX2_line_9 : List UInt8 := [42, 180, 0, 149, 154, 0, 19, 3, 42, 180, 0, 7, 16, 9, 46, 27, 100, 184, 0, 116, 167, 0, 10, 42]
abbrev dktX2_line_9 : List UInt8 := dkwX2_line_9 ++ dktX2_line_10
def dkwX2_line_8 : List UInt8 := [182, 0, 201, 153, 0, 55, 42, 182, 0, 177, 42, 4, 16, 99, 182, 0, 186, 60, 42, 180, 0, 7, 16, 9]
abbrev dktX2_line_8 : List UInt8 := dkwX2_line_8 ++ dktX2_line_9
def dkwX2_line_7 : List UInt8 := [180, 0, 149, 154, 0, 11, 42, 27, 182, 0, 232, 167, 0, 4, 3, 61, 167, 0, 69, 42, 18, 235]
abbrev dktX2_line_7 : List UInt8 := dkwX2_line_7 ++ dktX2_line_8
def dkwX2_line_6 : List UInt8 := [182, 0, 201, 153, 0, 39, 42, 182, 0, 177, 42, 3, 42, 182, 0, 60, 4, 96, 182, 0, 186, 60, 42]
abbrev dktX2_line_6 : List UInt8 := dkwX2_line_6 ++ dktX2_line_7
def dkwX2_line_5 : List UInt8 := [18, 225, 182, 0, 201, 153, 0, 14, 42, 182, 0, 227, 42, 182, 0, 177, 167, 0, 114, 42, 18, 230]
abbrev dktX2_line_5 : List UInt8 := dkwX2_line_5 ++ dktX2_line_6
def dkwX2_line_4 : List UInt8 := [182, 0, 217, 167, 0, 150, 42, 18, 220, 182, 0, 201, 153, 0, 10, 42, 182, 0, 222, 167, 0, 134, 42]
abbrev dktX2_line_4 : List UInt8 := dkwX2_line_4 ++ dktX2_line_5
def dkwX2_line_3 : List UInt8 := [180, 0, 7, 16, 31, 27, 96, 46, 79, 167, 0, 166, 42, 18, 215, 182, 0, 201, 153, 0, 10, 42]
abbrev dktX2_line_3 : List UInt8 := dkwX2_line_3 ++ dktX2_line_4
def dkwX2_line_2 : List UInt8 := [182, 0, 183, 60, 42, 180, 0, 7, 16, 31, 27, 96, 42, 180, 0, 149, 154, 0, 7, 4, 167, 0, 12, 42]
abbrev dktX2_line_2 : List UInt8 := dkwX2_line_2 ++ dktX2_line_3
def dkwX2_line_1 : List UInt8 := [153, 0, 10, 42, 182, 0, 210, 167, 0, 216, 42, 18, 213, 182, 0, 201, 153, 0, 44, 42, 182, 0, 177, 42]
abbrev dktX2_line_1 : List UInt8 := dkwX2_line_1 ++ dktX2_line_2
def dkwX2_line_0 : List UInt8 := [42, 18, 199, 182, 0, 201, 153, 0, 10, 42, 182, 0, 205, 167, 0, 232, 42, 18, 208, 182, 0, 201]
abbrev dktX2_line_0 : List UInt8 := dkwX2_line_0 ++ dktX2_line_1
theorem dksX2_line_0 : cX2_line.data.toList.drop 0 = dktX2_line_0 := by decide +kernel
theorem dksX2_line_1 : cX2_line.data.toList.drop 22 = dktX2_line_1 := dk_seg dksX2_line_0 22 rfl rfl
theorem dksX2_line_2 : cX2_line.data.toList.drop 46 = dktX2_line_2 := dk_seg dksX2_line_1 24 rfl rfl
theorem dksX2_line_3 : cX2_line.data.toList.drop 70 = dktX2_line_3 := dk_seg dksX2_line_2 24 rfl rfl
theorem dksX2_line_4 : cX2_line.data.toList.drop 92 = dktX2_line_4 := dk_seg dksX2_line_3 22 rfl rfl
theorem dksX2_line_5 : cX2_line.data.toList.drop 115 = dktX2_line_5 := dk_seg dksX2_line_4 23 rfl rfl
theorem dksX2_line_6 : cX2_line.data.toList.drop 137 = dktX2_line_6 := dk_seg dksX2_line_5 22 rfl rfl
theorem dksX2_line_7 : cX2_line.data.toList.drop 160 = dktX2_line_7 := dk_seg dksX2_line_6 23 rfl rfl
theorem dksX2_line_8 : cX2_line.data.toList.drop 182 = dktX2_line_8 := dk_seg dksX2_line_7 22 rfl rfl
theorem dksX2_line_9 : cX2_line.data.toList.drop 206 = dktX2_line_9 := dk_seg dksX2_line_8 24 rfl rfl
theorem dksX2_line_10 : cX2_line.data.toList.drop 230 = dktX2_line_10 := dk_seg dksX2_line_9 24 rfl rfl
theorem dX2_line_0 : decode cX2_line 0 = .ok (.aload_n 0, 1) := dk_42 (dk_at dksX2_line_0 0 rfl rfl)
theorem dX2_line_1 : decode cX2_line 1 = .ok (.ldc 199, 2) := dk_18 199 (dk_at dksX2_line_0 1 rfl rfl)
theorem dX2_line_3 : decode cX2_line 3 = .ok (.invokevirtual 201, 3) := dk_182 0 201 (dk_at dksX2_line_0 3 rfl rfl)
theorem dX2_line_6 : decode cX2_line 6 = .ok (.ifCond .eq 10, 3) := dk_153 0 10 (dk_at dksX2_line_0 6 rfl rfl)
theorem dX2_line_9 : decode cX2_line 9 = .ok (.aload_n 0, 1) := dk_42 (dk_at dksX2_line_0 9 rfl rfl)
theorem dX2_line_10 : decode cX2_line 10 = .ok (.invokevirtual 205, 3) := dk_182 0 205 (dk_at dksX2_line_0 10 rfl rfl)
theorem dX2_line_13 : decode cX2_line 13 = .ok (.goto 232, 3) := dk_167 0 232 (dk_at dksX2_line_0 13 rfl rfl)
theorem dX2_line_16 : decode cX2_line 16 = .ok (.aload_n 0, 1) := dk_42 (dk_at dksX2_line_0 16 rfl rfl)
theorem dX2_line_17 : decode cX2_line 17 = .ok (.ldc 208, 2) := dk_18 208 (dk_at dksX2_line_0 17 rfl rfl)
theorem dX2_line_19 : decode cX2_line 19 = .ok (.invokevirtual 201, 3) := dk_182 0 201 (dk_at dksX2_line_0 19 rfl rfl)
theorem dX2_line_22 : decode cX2_line 22 = .ok (.ifCond .eq 10, 3) := dk_153 0 10 (dk_at dksX2_line_1 0 rfl rfl)
theorem dX2_line_25 : decode cX2_line 25 = .ok (.aload_n 0, 1) := dk_42 (dk_at dksX2_line_1 3 rfl rfl)
theorem dX2_line_26 : decode cX2_line 26 = .ok (.invokevirtual 210, 3) := dk_182 0 210 (dk_at dksX2_line_1 4 rfl rfl)
theorem dX2_line_29 : decode cX2_line 29 = .ok (.goto 216, 3) := dk_167 0 216 (dk_at dksX2_line_1 7 rfl rfl)
theorem dX2_line_32 : decode cX2_line 32 = .ok (.aload_n 0, 1) := dk_42 (dk_at dksX2_line_1 10 rfl rfl)
theorem dX2_line_33 : decode cX2_line 33 = .ok (.ldc 213, 2) := dk_18 213 (dk_at dksX2_line_1 11 rfl rfl)
theorem dX2_line_35 : decode cX2_line 35 = .ok (.invokevirtual 201, 3) := dk_182 0 201 (dk_at dksX2_line_1 13 rfl rfl)
theorem dX2_line_38 : decode cX2_line 38 = .ok (.ifCond .eq 44, 3) := dk_153 0 44 (dk_at dksX2_line_1 16 rfl rfl)
theorem dX2_line_41 : decode cX2_line 41 = .ok (.aload_n 0, 1) := dk_42 (dk_at dksX2_line_1 19 rfl rfl)
theorem dX2_line_42 : decode cX2_line 42 = .ok (.invokevirtual 177, 3) := dk_182 0 177 (dk_at dksX2_line_1 20 rfl rfl)
theorem dX2_line_45 : decode cX2_line 45 = .ok (.aload_n 0, 1) := dk_42 (dk_at dksX2_line_1 23 rfl rfl)
theorem dX2_line_46 : decode cX2_line 46 = .ok (.invokevirtual 183, 3) := dk_182 0 183 (dk_at dksX2_line_2 0 rfl rfl)
theorem dX2_line_49 : decode cX2_line 49 = .ok (.istore_n 1, 1) := dk_60 (dk_at dksX2_line_2 3 rfl rfl)
theorem dX2_line_50 : decode cX2_line 50 = .ok (.aload_n 0, 1) := dk_42 (dk_at dksX2_line_2 4 rfl rfl)
theorem dX2_line_51 : decode cX2_line 51 = .ok (.getfield 7, 3) := dk_180 0 7 (dk_at dksX2_line_2 5 rfl rfl)
theorem dX2_line_54 : decode cX2_line 54 = .ok (.bipush 31, 2) := dk_16 31 (dk_at dksX2_line_2 8 rfl rfl)
theorem dX2_line_56 : decode cX2_line 56 = .ok (.iload_n 1, 1) := dk_27 (dk_at dksX2_line_2 10 rfl rfl)
theorem dX2_line_57 : decode cX2_line 57 = .ok (.iadd, 1) := dk_96 (dk_at dksX2_line_2 11 rfl rfl)
theorem dX2_line_58 : decode cX2_line 58 = .ok (.aload_n 0, 1) := dk_42 (dk_at dksX2_line_2 12 rfl rfl)
theorem dX2_line_59 : decode cX2_line 59 = .ok (.getfield 149, 3) := dk_180 0 149 (dk_at dksX2_line_2 13 rfl rfl)
theorem dX2_line_62 : decode cX2_line 62 = .ok (.ifCond .ne 7, 3) := dk_154 0 7 (dk_at dksX2_line_2 16 rfl rfl)
theorem dX2_line_65 : decode cX2_line 65 = .ok (.iconst 1, 1) := dk_4 (dk_at dksX2_line_2 19 rfl rfl)
theorem dX2_line_66 : decode cX2_line 66 = .ok (.goto 12, 3) := dk_167 0 12 (dk_at dksX2_line_2 20 rfl rfl)
theorem dX2_line_69 : decode cX2_line 69 = .ok (.aload_n 0, 1) := dk_42 (dk_at dksX2_line_2 23 rfl rfl)
theorem dX2_line_70 : decode cX2_line 70 = .ok (.getfield 7, 3) := dk_180 0 7 (dk_at dksX2_line_3 0 rfl rfl)
theorem dX2_line_73 : decode cX2_line 73 = .ok (.bipush 31, 2) := dk_16 31 (dk_at dksX2_line_3 3 rfl rfl)
theorem dX2_line_75 : decode cX2_line 75 = .ok (.iload_n 1, 1) := dk_27 (dk_at dksX2_line_3 5 rfl rfl)
theorem dX2_line_76 : decode cX2_line 76 = .ok (.iadd, 1) := dk_96 (dk_at dksX2_line_3 6 rfl rfl)
theorem dX2_line_77 : decode cX2_line 77 = .ok (.iaload, 1) := dk_46 (dk_at dksX2_line_3 7 rfl rfl)
theorem dX2_line_78 : decode cX2_line 78 = .ok (.iastore, 1) := dk_79 (dk_at dksX2_line_3 8 rfl rfl)
theorem dX2_line_79 : decode cX2_line 79 = .ok (.goto 166, 3) := dk_167 0 166 (dk_at dksX2_line_3 9 rfl rfl)
theorem dX2_line_82 : decode cX2_line 82 = .ok (.aload_n 0, 1) := dk_42 (dk_at dksX2_line_3 12 rfl rfl)
theorem dX2_line_83 : decode cX2_line 83 = .ok (.ldc 215, 2) := dk_18 215 (dk_at dksX2_line_3 13 rfl rfl)
theorem dX2_line_85 : decode cX2_line 85 = .ok (.invokevirtual 201, 3) := dk_182 0 201 (dk_at dksX2_line_3 15 rfl rfl)
theorem dX2_line_88 : decode cX2_line 88 = .ok (.ifCond .eq 10, 3) := dk_153 0 10 (dk_at dksX2_line_3 18 rfl rfl)
theorem dX2_line_91 : decode cX2_line 91 = .ok (.aload_n 0, 1) := dk_42 (dk_at dksX2_line_3 21 rfl rfl)
theorem dX2_line_92 : decode cX2_line 92 = .ok (.invokevirtual 217, 3) := dk_182 0 217 (dk_at dksX2_line_4 0 rfl rfl)
theorem dX2_line_95 : decode cX2_line 95 = .ok (.goto 150, 3) := dk_167 0 150 (dk_at dksX2_line_4 3 rfl rfl)
theorem dX2_line_98 : decode cX2_line 98 = .ok (.aload_n 0, 1) := dk_42 (dk_at dksX2_line_4 6 rfl rfl)
theorem dX2_line_99 : decode cX2_line 99 = .ok (.ldc 220, 2) := dk_18 220 (dk_at dksX2_line_4 7 rfl rfl)
theorem dX2_line_101 : decode cX2_line 101 = .ok (.invokevirtual 201, 3) := dk_182 0 201 (dk_at dksX2_line_4 9 rfl rfl)
theorem dX2_line_104 : decode cX2_line 104 = .ok (.ifCond .eq 10, 3) := dk_153 0 10 (dk_at dksX2_line_4 12 rfl rfl)
theorem dX2_line_107 : decode cX2_line 107 = .ok (.aload_n 0, 1) := dk_42 (dk_at dksX2_line_4 15 rfl rfl)
theorem dX2_line_108 : decode cX2_line 108 = .ok (.invokevirtual 222, 3) := dk_182 0 222 (dk_at dksX2_line_4 16 rfl rfl)
theorem dX2_line_111 : decode cX2_line 111 = .ok (.goto 134, 3) := dk_167 0 134 (dk_at dksX2_line_4 19 rfl rfl)
theorem dX2_line_114 : decode cX2_line 114 = .ok (.aload_n 0, 1) := dk_42 (dk_at dksX2_line_4 22 rfl rfl)
theorem dX2_line_115 : decode cX2_line 115 = .ok (.ldc 225, 2) := dk_18 225 (dk_at dksX2_line_5 0 rfl rfl)
theorem dX2_line_117 : decode cX2_line 117 = .ok (.invokevirtual 201, 3) := dk_182 0 201 (dk_at dksX2_line_5 2 rfl rfl)
theorem dX2_line_120 : decode cX2_line 120 = .ok (.ifCond .eq 14, 3) := dk_153 0 14 (dk_at dksX2_line_5 5 rfl rfl)
theorem dX2_line_123 : decode cX2_line 123 = .ok (.aload_n 0, 1) := dk_42 (dk_at dksX2_line_5 8 rfl rfl)
theorem dX2_line_124 : decode cX2_line 124 = .ok (.invokevirtual 227, 3) := dk_182 0 227 (dk_at dksX2_line_5 9 rfl rfl)
theorem dX2_line_127 : decode cX2_line 127 = .ok (.aload_n 0, 1) := dk_42 (dk_at dksX2_line_5 12 rfl rfl)
theorem dX2_line_128 : decode cX2_line 128 = .ok (.invokevirtual 177, 3) := dk_182 0 177 (dk_at dksX2_line_5 13 rfl rfl)
theorem dX2_line_131 : decode cX2_line 131 = .ok (.goto 114, 3) := dk_167 0 114 (dk_at dksX2_line_5 16 rfl rfl)
theorem dX2_line_134 : decode cX2_line 134 = .ok (.aload_n 0, 1) := dk_42 (dk_at dksX2_line_5 19 rfl rfl)
theorem dX2_line_135 : decode cX2_line 135 = .ok (.ldc 230, 2) := dk_18 230 (dk_at dksX2_line_5 20 rfl rfl)
theorem dX2_line_137 : decode cX2_line 137 = .ok (.invokevirtual 201, 3) := dk_182 0 201 (dk_at dksX2_line_6 0 rfl rfl)
theorem dX2_line_140 : decode cX2_line 140 = .ok (.ifCond .eq 39, 3) := dk_153 0 39 (dk_at dksX2_line_6 3 rfl rfl)
theorem dX2_line_143 : decode cX2_line 143 = .ok (.aload_n 0, 1) := dk_42 (dk_at dksX2_line_6 6 rfl rfl)
theorem dX2_line_144 : decode cX2_line 144 = .ok (.invokevirtual 177, 3) := dk_182 0 177 (dk_at dksX2_line_6 7 rfl rfl)
theorem dX2_line_147 : decode cX2_line 147 = .ok (.aload_n 0, 1) := dk_42 (dk_at dksX2_line_6 10 rfl rfl)
theorem dX2_line_148 : decode cX2_line 148 = .ok (.iconst 0, 1) := dk_3 (dk_at dksX2_line_6 11 rfl rfl)
theorem dX2_line_149 : decode cX2_line 149 = .ok (.aload_n 0, 1) := dk_42 (dk_at dksX2_line_6 12 rfl rfl)
theorem dX2_line_150 : decode cX2_line 150 = .ok (.invokevirtual 60, 3) := dk_182 0 60 (dk_at dksX2_line_6 13 rfl rfl)
theorem dX2_line_153 : decode cX2_line 153 = .ok (.iconst 1, 1) := dk_4 (dk_at dksX2_line_6 16 rfl rfl)
theorem dX2_line_154 : decode cX2_line 154 = .ok (.iadd, 1) := dk_96 (dk_at dksX2_line_6 17 rfl rfl)
theorem dX2_line_155 : decode cX2_line 155 = .ok (.invokevirtual 186, 3) := dk_182 0 186 (dk_at dksX2_line_6 18 rfl rfl)
theorem dX2_line_158 : decode cX2_line 158 = .ok (.istore_n 1, 1) := dk_60 (dk_at dksX2_line_6 21 rfl rfl)
theorem dX2_line_159 : decode cX2_line 159 = .ok (.aload_n 0, 1) := dk_42 (dk_at dksX2_line_6 22 rfl rfl)
theorem dX2_line_160 : decode cX2_line 160 = .ok (.getfield 149, 3) := dk_180 0 149 (dk_at dksX2_line_7 0 rfl rfl)
theorem dX2_line_163 : decode cX2_line 163 = .ok (.ifCond .ne 11, 3) := dk_154 0 11 (dk_at dksX2_line_7 3 rfl rfl)
theorem dX2_line_166 : decode cX2_line 166 = .ok (.aload_n 0, 1) := dk_42 (dk_at dksX2_line_7 6 rfl rfl)
theorem dX2_line_167 : decode cX2_line 167 = .ok (.iload_n 1, 1) := dk_27 (dk_at dksX2_line_7 7 rfl rfl)
theorem dX2_line_168 : decode cX2_line 168 = .ok (.invokevirtual 232, 3) := dk_182 0 232 (dk_at dksX2_line_7 8 rfl rfl)
theorem dX2_line_171 : decode cX2_line 171 = .ok (.goto 4, 3) := dk_167 0 4 (dk_at dksX2_line_7 11 rfl rfl)
theorem dX2_line_174 : decode cX2_line 174 = .ok (.iconst 0, 1) := dk_3 (dk_at dksX2_line_7 14 rfl rfl)
theorem dX2_line_175 : decode cX2_line 175 = .ok (.istore_n 2, 1) := dk_61 (dk_at dksX2_line_7 15 rfl rfl)
theorem dX2_line_176 : decode cX2_line 176 = .ok (.goto 69, 3) := dk_167 0 69 (dk_at dksX2_line_7 16 rfl rfl)
theorem dX2_line_179 : decode cX2_line 179 = .ok (.aload_n 0, 1) := dk_42 (dk_at dksX2_line_7 19 rfl rfl)
theorem dX2_line_180 : decode cX2_line 180 = .ok (.ldc 235, 2) := dk_18 235 (dk_at dksX2_line_7 20 rfl rfl)
theorem dX2_line_182 : decode cX2_line 182 = .ok (.invokevirtual 201, 3) := dk_182 0 201 (dk_at dksX2_line_8 0 rfl rfl)
theorem dX2_line_185 : decode cX2_line 185 = .ok (.ifCond .eq 55, 3) := dk_153 0 55 (dk_at dksX2_line_8 3 rfl rfl)
theorem dX2_line_188 : decode cX2_line 188 = .ok (.aload_n 0, 1) := dk_42 (dk_at dksX2_line_8 6 rfl rfl)
theorem dX2_line_189 : decode cX2_line 189 = .ok (.invokevirtual 177, 3) := dk_182 0 177 (dk_at dksX2_line_8 7 rfl rfl)
theorem dX2_line_192 : decode cX2_line 192 = .ok (.aload_n 0, 1) := dk_42 (dk_at dksX2_line_8 10 rfl rfl)
theorem dX2_line_193 : decode cX2_line 193 = .ok (.iconst 1, 1) := dk_4 (dk_at dksX2_line_8 11 rfl rfl)
theorem dX2_line_194 : decode cX2_line 194 = .ok (.bipush 99, 2) := dk_16 99 (dk_at dksX2_line_8 12 rfl rfl)
theorem dX2_line_196 : decode cX2_line 196 = .ok (.invokevirtual 186, 3) := dk_182 0 186 (dk_at dksX2_line_8 14 rfl rfl)
theorem dX2_line_199 : decode cX2_line 199 = .ok (.istore_n 1, 1) := dk_60 (dk_at dksX2_line_8 17 rfl rfl)
theorem dX2_line_200 : decode cX2_line 200 = .ok (.aload_n 0, 1) := dk_42 (dk_at dksX2_line_8 18 rfl rfl)
theorem dX2_line_201 : decode cX2_line 201 = .ok (.getfield 7, 3) := dk_180 0 7 (dk_at dksX2_line_8 19 rfl rfl)
theorem dX2_line_204 : decode cX2_line 204 = .ok (.bipush 9, 2) := dk_16 9 (dk_at dksX2_line_8 22 rfl rfl)
theorem dX2_line_206 : decode cX2_line 206 = .ok (.aload_n 0, 1) := dk_42 (dk_at dksX2_line_9 0 rfl rfl)
theorem dX2_line_207 : decode cX2_line 207 = .ok (.getfield 149, 3) := dk_180 0 149 (dk_at dksX2_line_9 1 rfl rfl)
theorem dX2_line_210 : decode cX2_line 210 = .ok (.ifCond .ne 19, 3) := dk_154 0 19 (dk_at dksX2_line_9 4 rfl rfl)
theorem dX2_line_213 : decode cX2_line 213 = .ok (.iconst 0, 1) := dk_3 (dk_at dksX2_line_9 7 rfl rfl)
theorem dX2_line_214 : decode cX2_line 214 = .ok (.aload_n 0, 1) := dk_42 (dk_at dksX2_line_9 8 rfl rfl)
theorem dX2_line_215 : decode cX2_line 215 = .ok (.getfield 7, 3) := dk_180 0 7 (dk_at dksX2_line_9 9 rfl rfl)
theorem dX2_line_218 : decode cX2_line 218 = .ok (.bipush 9, 2) := dk_16 9 (dk_at dksX2_line_9 12 rfl rfl)
theorem dX2_line_220 : decode cX2_line 220 = .ok (.iaload, 1) := dk_46 (dk_at dksX2_line_9 14 rfl rfl)
theorem dX2_line_221 : decode cX2_line 221 = .ok (.iload_n 1, 1) := dk_27 (dk_at dksX2_line_9 15 rfl rfl)
theorem dX2_line_222 : decode cX2_line 222 = .ok (.isub, 1) := dk_100 (dk_at dksX2_line_9 16 rfl rfl)
theorem dX2_line_223 : decode cX2_line 223 = .ok (.invokestatic 116, 3) := dk_184 0 116 (dk_at dksX2_line_9 17 rfl rfl)
theorem dX2_line_226 : decode cX2_line 226 = .ok (.goto 10, 3) := dk_167 0 10 (dk_at dksX2_line_9 20 rfl rfl)
theorem dX2_line_229 : decode cX2_line 229 = .ok (.aload_n 0, 1) := dk_42 (dk_at dksX2_line_9 23 rfl rfl)
theorem dX2_line_230 : decode cX2_line 230 = .ok (.getfield 7, 3) := dk_180 0 7 (dk_at dksX2_line_10 0 rfl rfl)
theorem dX2_line_233 : decode cX2_line 233 = .ok (.bipush 9, 2) := dk_16 9 (dk_at dksX2_line_10 3 rfl rfl)
theorem dX2_line_235 : decode cX2_line 235 = .ok (.iaload, 1) := dk_46 (dk_at dksX2_line_10 5 rfl rfl)
theorem dX2_line_236 : decode cX2_line 236 = .ok (.iastore, 1) := dk_79 (dk_at dksX2_line_10 6 rfl rfl)
theorem dX2_line_237 : decode cX2_line 237 = .ok (.goto 8, 3) := dk_167 0 8 (dk_at dksX2_line_10 7 rfl rfl)
theorem dX2_line_240 : decode cX2_line 240 = .ok (.aload_n 0, 1) := dk_42 (dk_at dksX2_line_10 10 rfl rfl)
theorem dX2_line_241 : decode cX2_line 241 = .ok (.iconst 1, 1) := dk_4 (dk_at dksX2_line_10 11 rfl rfl)
theorem dX2_line_242 : decode cX2_line 242 = .ok (.invokevirtual 155, 3) := dk_182 0 155 (dk_at dksX2_line_10 12 rfl rfl)
theorem dX2_line_245 : decode cX2_line 245 = .ok (.return_, 1) := dk_177 (dk_at dksX2_line_10 15 rfl rfl)
abbrev cX2_heapLine : ByteArray := prog_10_method_52_code
def yX2_heapLine : MethodName := ⟨RX2, "heapLine", "()V"⟩
def dkwX2_heapLine_3 : List UInt8 := [177]
abbrev dktX2_heapLine_3 : List UInt8 := dkwX2_heapLine_3 ++ []
def dkwX2_heapLine_2 : List UInt8 := [27, 96, 92, 46, 29, 96, 79, 42, 180, 0, 7, 16, 19, 92, 46, 29, 96, 79, 42, 182, 0, 69, 54, 4]
abbrev dktX2_heapLine_2 : List UInt8 := dkwX2_heapLine_2 ++ dktX2_heapLine_3
def dkwX2_heapLine_1 : List UInt8 := [154, 0, 48, 28, 42, 182, 0, 60, 42, 27, 182, 0, 49, 100, 184, 0, 63, 62, 42, 180, 0, 7, 16, 22]
abbrev dktX2_heapLine_1 : List UInt8 := dkwX2_heapLine_1 ++ dktX2_heapLine_2
def dkwX2_heapLine_0 : List UInt8 := [42, 182, 0, 177, 42, 182, 0, 183, 60, 42, 3, 42, 182, 0, 60, 182, 0, 186, 61, 42, 180, 0, 149]
abbrev dktX2_heapLine_0 : List UInt8 := dkwX2_heapLine_0 ++ dktX2_heapLine_1
theorem dksX2_heapLine_0 : cX2_heapLine.data.toList.drop 0 = dktX2_heapLine_0 := by decide +kernel
theorem dksX2_heapLine_1 : cX2_heapLine.data.toList.drop 23 = dktX2_heapLine_1 := dk_seg dksX2_heapLine_0 23 rfl rfl
theorem dksX2_heapLine_2 : cX2_heapLine.data.toList.drop 47 = dktX2_heapLine_2 := dk_seg dksX2_heapLine_1 24 rfl rfl
theorem dksX2_heapLine_3 : cX2_heapLine.data.toList.drop 71 = dktX2_heapLine_3 := dk_seg dksX2_heapLine_2 24 rfl rfl
theorem dX2_heapLine_0 : decode cX2_heapLine 0 = .ok (.aload_n 0, 1) := dk_42 (dk_at dksX2_heapLine_0 0 rfl rfl)
theorem dX2_heapLine_1 : decode cX2_heapLine 1 = .ok (.invokevirtual 177, 3) := dk_182 0 177 (dk_at dksX2_heapLine_0 1 rfl rfl)
theorem dX2_heapLine_4 : decode cX2_heapLine 4 = .ok (.aload_n 0, 1) := dk_42 (dk_at dksX2_heapLine_0 4 rfl rfl)
theorem dX2_heapLine_5 : decode cX2_heapLine 5 = .ok (.invokevirtual 183, 3) := dk_182 0 183 (dk_at dksX2_heapLine_0 5 rfl rfl)
theorem dX2_heapLine_8 : decode cX2_heapLine 8 = .ok (.istore_n 1, 1) := dk_60 (dk_at dksX2_heapLine_0 8 rfl rfl)
theorem dX2_heapLine_9 : decode cX2_heapLine 9 = .ok (.aload_n 0, 1) := dk_42 (dk_at dksX2_heapLine_0 9 rfl rfl)
theorem dX2_heapLine_10 : decode cX2_heapLine 10 = .ok (.iconst 0, 1) := dk_3 (dk_at dksX2_heapLine_0 10 rfl rfl)
theorem dX2_heapLine_11 : decode cX2_heapLine 11 = .ok (.aload_n 0, 1) := dk_42 (dk_at dksX2_heapLine_0 11 rfl rfl)
theorem dX2_heapLine_12 : decode cX2_heapLine 12 = .ok (.invokevirtual 60, 3) := dk_182 0 60 (dk_at dksX2_heapLine_0 12 rfl rfl)
theorem dX2_heapLine_15 : decode cX2_heapLine 15 = .ok (.invokevirtual 186, 3) := dk_182 0 186 (dk_at dksX2_heapLine_0 15 rfl rfl)
theorem dX2_heapLine_18 : decode cX2_heapLine 18 = .ok (.istore_n 2, 1) := dk_61 (dk_at dksX2_heapLine_0 18 rfl rfl)
theorem dX2_heapLine_19 : decode cX2_heapLine 19 = .ok (.aload_n 0, 1) := dk_42 (dk_at dksX2_heapLine_0 19 rfl rfl)
theorem dX2_heapLine_20 : decode cX2_heapLine 20 = .ok (.getfield 149, 3) := dk_180 0 149 (dk_at dksX2_heapLine_0 20 rfl rfl)
theorem dX2_heapLine_23 : decode cX2_heapLine 23 = .ok (.ifCond .ne 48, 3) := dk_154 0 48 (dk_at dksX2_heapLine_1 0 rfl rfl)
theorem dX2_heapLine_26 : decode cX2_heapLine 26 = .ok (.iload_n 2, 1) := dk_28 (dk_at dksX2_heapLine_1 3 rfl rfl)
theorem dX2_heapLine_27 : decode cX2_heapLine 27 = .ok (.aload_n 0, 1) := dk_42 (dk_at dksX2_heapLine_1 4 rfl rfl)
theorem dX2_heapLine_28 : decode cX2_heapLine 28 = .ok (.invokevirtual 60, 3) := dk_182 0 60 (dk_at dksX2_heapLine_1 5 rfl rfl)
theorem dX2_heapLine_31 : decode cX2_heapLine 31 = .ok (.aload_n 0, 1) := dk_42 (dk_at dksX2_heapLine_1 8 rfl rfl)
theorem dX2_heapLine_32 : decode cX2_heapLine 32 = .ok (.iload_n 1, 1) := dk_27 (dk_at dksX2_heapLine_1 9 rfl rfl)
theorem dX2_heapLine_33 : decode cX2_heapLine 33 = .ok (.invokevirtual 49, 3) := dk_182 0 49 (dk_at dksX2_heapLine_1 10 rfl rfl)
theorem dX2_heapLine_36 : decode cX2_heapLine 36 = .ok (.isub, 1) := dk_100 (dk_at dksX2_heapLine_1 13 rfl rfl)
theorem dX2_heapLine_37 : decode cX2_heapLine 37 = .ok (.invokestatic 63, 3) := dk_184 0 63 (dk_at dksX2_heapLine_1 14 rfl rfl)
theorem dX2_heapLine_40 : decode cX2_heapLine 40 = .ok (.istore_n 3, 1) := dk_62 (dk_at dksX2_heapLine_1 17 rfl rfl)
theorem dX2_heapLine_41 : decode cX2_heapLine 41 = .ok (.aload_n 0, 1) := dk_42 (dk_at dksX2_heapLine_1 18 rfl rfl)
theorem dX2_heapLine_42 : decode cX2_heapLine 42 = .ok (.getfield 7, 3) := dk_180 0 7 (dk_at dksX2_heapLine_1 19 rfl rfl)
theorem dX2_heapLine_45 : decode cX2_heapLine 45 = .ok (.bipush 22, 2) := dk_16 22 (dk_at dksX2_heapLine_1 22 rfl rfl)
theorem dX2_heapLine_47 : decode cX2_heapLine 47 = .ok (.iload_n 1, 1) := dk_27 (dk_at dksX2_heapLine_2 0 rfl rfl)
theorem dX2_heapLine_48 : decode cX2_heapLine 48 = .ok (.iadd, 1) := dk_96 (dk_at dksX2_heapLine_2 1 rfl rfl)
theorem dX2_heapLine_49 : decode cX2_heapLine 49 = .ok (.dup2, 1) := dk_92 (dk_at dksX2_heapLine_2 2 rfl rfl)
theorem dX2_heapLine_50 : decode cX2_heapLine 50 = .ok (.iaload, 1) := dk_46 (dk_at dksX2_heapLine_2 3 rfl rfl)
theorem dX2_heapLine_51 : decode cX2_heapLine 51 = .ok (.iload_n 3, 1) := dk_29 (dk_at dksX2_heapLine_2 4 rfl rfl)
theorem dX2_heapLine_52 : decode cX2_heapLine 52 = .ok (.iadd, 1) := dk_96 (dk_at dksX2_heapLine_2 5 rfl rfl)
theorem dX2_heapLine_53 : decode cX2_heapLine 53 = .ok (.iastore, 1) := dk_79 (dk_at dksX2_heapLine_2 6 rfl rfl)
theorem dX2_heapLine_54 : decode cX2_heapLine 54 = .ok (.aload_n 0, 1) := dk_42 (dk_at dksX2_heapLine_2 7 rfl rfl)
theorem dX2_heapLine_55 : decode cX2_heapLine 55 = .ok (.getfield 7, 3) := dk_180 0 7 (dk_at dksX2_heapLine_2 8 rfl rfl)
theorem dX2_heapLine_58 : decode cX2_heapLine 58 = .ok (.bipush 19, 2) := dk_16 19 (dk_at dksX2_heapLine_2 11 rfl rfl)
theorem dX2_heapLine_60 : decode cX2_heapLine 60 = .ok (.dup2, 1) := dk_92 (dk_at dksX2_heapLine_2 13 rfl rfl)
theorem dX2_heapLine_61 : decode cX2_heapLine 61 = .ok (.iaload, 1) := dk_46 (dk_at dksX2_heapLine_2 14 rfl rfl)
theorem dX2_heapLine_62 : decode cX2_heapLine 62 = .ok (.iload_n 3, 1) := dk_29 (dk_at dksX2_heapLine_2 15 rfl rfl)
theorem dX2_heapLine_63 : decode cX2_heapLine 63 = .ok (.iadd, 1) := dk_96 (dk_at dksX2_heapLine_2 16 rfl rfl)
theorem dX2_heapLine_64 : decode cX2_heapLine 64 = .ok (.iastore, 1) := dk_79 (dk_at dksX2_heapLine_2 17 rfl rfl)
theorem dX2_heapLine_65 : decode cX2_heapLine 65 = .ok (.aload_n 0, 1) := dk_42 (dk_at dksX2_heapLine_2 18 rfl rfl)
theorem dX2_heapLine_66 : decode cX2_heapLine 66 = .ok (.invokevirtual 69, 3) := dk_182 0 69 (dk_at dksX2_heapLine_2 19 rfl rfl)
theorem dX2_heapLine_69 : decode cX2_heapLine 69 = .ok (.istore 4, 2) := dk_54 4 (dk_at dksX2_heapLine_2 22 rfl rfl)
theorem dX2_heapLine_71 : decode cX2_heapLine 71 = .ok (.return_, 1) := dk_177 (dk_at dksX2_heapLine_3 0 rfl rfl)
abbrev cX2_depth : ByteArray := prog_10_method_11_code
def yX2_depth : MethodName := ⟨RX2, "depth", "()I"⟩
def dkwX2_depth_0 : List UInt8 := [42, 180, 0, 7, 4, 46, 172]
abbrev dktX2_depth_0 : List UInt8 := dkwX2_depth_0 ++ []
theorem dksX2_depth_0 : cX2_depth.data.toList.drop 0 = dktX2_depth_0 := by decide +kernel
theorem dX2_depth_0 : decode cX2_depth 0 = .ok (.aload_n 0, 1) := dk_42 (dk_at dksX2_depth_0 0 rfl rfl)
theorem dX2_depth_1 : decode cX2_depth 1 = .ok (.getfield 7, 3) := dk_180 0 7 (dk_at dksX2_depth_0 1 rfl rfl)
theorem dX2_depth_4 : decode cX2_depth 4 = .ok (.iconst 1, 1) := dk_4 (dk_at dksX2_depth_0 4 rfl rfl)
theorem dX2_depth_5 : decode cX2_depth 5 = .ok (.iaload, 1) := dk_46 (dk_at dksX2_depth_0 5 rfl rfl)
theorem dX2_depth_6 : decode cX2_depth 6 = .ok (.ireturn, 1) := dk_172 (dk_at dksX2_depth_0 6 rfl rfl)
abbrev cX2_high : ByteArray := prog_10_method_12_code
def yX2_high : MethodName := ⟨RX2, "high", "(I)I"⟩
def dkwX2_high_0 : List UInt8 := [42, 180, 0, 7, 16, 22, 27, 96, 46, 172]
abbrev dktX2_high_0 : List UInt8 := dkwX2_high_0 ++ []
theorem dksX2_high_0 : cX2_high.data.toList.drop 0 = dktX2_high_0 := by decide +kernel
theorem dX2_high_0 : decode cX2_high 0 = .ok (.aload_n 0, 1) := dk_42 (dk_at dksX2_high_0 0 rfl rfl)
theorem dX2_high_1 : decode cX2_high 1 = .ok (.getfield 7, 3) := dk_180 0 7 (dk_at dksX2_high_0 1 rfl rfl)
theorem dX2_high_4 : decode cX2_high 4 = .ok (.bipush 22, 2) := dk_16 22 (dk_at dksX2_high_0 4 rfl rfl)
theorem dX2_high_6 : decode cX2_high 6 = .ok (.iload_n 1, 1) := dk_27 (dk_at dksX2_high_0 6 rfl rfl)
theorem dX2_high_7 : decode cX2_high 7 = .ok (.iadd, 1) := dk_96 (dk_at dksX2_high_0 7 rfl rfl)
theorem dX2_high_8 : decode cX2_high 8 = .ok (.iaload, 1) := dk_46 (dk_at dksX2_high_0 8 rfl rfl)
theorem dX2_high_9 : decode cX2_high 9 = .ok (.ireturn, 1) := dk_172 (dk_at dksX2_high_0 9 rfl rfl)
abbrev cX2_slides : ByteArray := prog_10_method_16_code
def yX2_slides : MethodName := ⟨RX2, "slides", "()I"⟩
def dkwX2_slides_3 : List UInt8 := [16, 18, 92, 46, 27, 96, 79, 27, 172]
abbrev dktX2_slides_3 : List UInt8 := dkwX2_slides_3 ++ []
def dkwX2_slides_2 : List UInt8 := [180, 0, 7, 16, 22, 29, 96, 92, 46, 4, 96, 79, 132, 1, 1, 3, 61, 167, 255, 197, 42, 180, 0, 7]
abbrev dktX2_slides_2 : List UInt8 := dkwX2_slides_2 ++ dktX2_slides_3
def dkwX2_slides_1 : List UInt8 := [167, 255, 237, 42, 28, 182, 0, 53, 62, 42, 180, 0, 7, 16, 22, 28, 96, 92, 46, 4, 100, 79, 42]
abbrev dktX2_slides_1 : List UInt8 := dkwX2_slides_1 ++ dktX2_slides_2
def dkwX2_slides_0 : List UInt8 := [3, 60, 3, 61, 28, 42, 182, 0, 45, 162, 0, 57, 42, 28, 182, 0, 56, 154, 0, 9, 132, 2, 1]
abbrev dktX2_slides_0 : List UInt8 := dkwX2_slides_0 ++ dktX2_slides_1
theorem dksX2_slides_0 : cX2_slides.data.toList.drop 0 = dktX2_slides_0 := by decide +kernel
theorem dksX2_slides_1 : cX2_slides.data.toList.drop 23 = dktX2_slides_1 := dk_seg dksX2_slides_0 23 rfl rfl
theorem dksX2_slides_2 : cX2_slides.data.toList.drop 46 = dktX2_slides_2 := dk_seg dksX2_slides_1 23 rfl rfl
theorem dksX2_slides_3 : cX2_slides.data.toList.drop 70 = dktX2_slides_3 := dk_seg dksX2_slides_2 24 rfl rfl
theorem dX2_slides_0 : decode cX2_slides 0 = .ok (.iconst 0, 1) := dk_3 (dk_at dksX2_slides_0 0 rfl rfl)
theorem dX2_slides_1 : decode cX2_slides 1 = .ok (.istore_n 1, 1) := dk_60 (dk_at dksX2_slides_0 1 rfl rfl)
theorem dX2_slides_2 : decode cX2_slides 2 = .ok (.iconst 0, 1) := dk_3 (dk_at dksX2_slides_0 2 rfl rfl)
theorem dX2_slides_3 : decode cX2_slides 3 = .ok (.istore_n 2, 1) := dk_61 (dk_at dksX2_slides_0 3 rfl rfl)
theorem dX2_slides_4 : decode cX2_slides 4 = .ok (.iload_n 2, 1) := dk_28 (dk_at dksX2_slides_0 4 rfl rfl)
theorem dX2_slides_5 : decode cX2_slides 5 = .ok (.aload_n 0, 1) := dk_42 (dk_at dksX2_slides_0 5 rfl rfl)
theorem dX2_slides_6 : decode cX2_slides 6 = .ok (.invokevirtual 45, 3) := dk_182 0 45 (dk_at dksX2_slides_0 6 rfl rfl)
theorem dX2_slides_9 : decode cX2_slides 9 = .ok (.if_icmp .ge 57, 3) := dk_162 0 57 (dk_at dksX2_slides_0 9 rfl rfl)
theorem dX2_slides_12 : decode cX2_slides 12 = .ok (.aload_n 0, 1) := dk_42 (dk_at dksX2_slides_0 12 rfl rfl)
theorem dX2_slides_13 : decode cX2_slides 13 = .ok (.iload_n 2, 1) := dk_28 (dk_at dksX2_slides_0 13 rfl rfl)
theorem dX2_slides_14 : decode cX2_slides 14 = .ok (.invokevirtual 56, 3) := dk_182 0 56 (dk_at dksX2_slides_0 14 rfl rfl)
theorem dX2_slides_17 : decode cX2_slides 17 = .ok (.ifCond .ne 9, 3) := dk_154 0 9 (dk_at dksX2_slides_0 17 rfl rfl)
theorem dX2_slides_20 : decode cX2_slides 20 = .ok (.iinc 2 1, 3) := dk_132 2 1 (dk_at dksX2_slides_0 20 rfl rfl)
theorem dX2_slides_23 : decode cX2_slides 23 = .ok (.goto (-19), 3) := dk_167 255 237 (dk_at dksX2_slides_1 0 rfl rfl)
theorem dX2_slides_26 : decode cX2_slides 26 = .ok (.aload_n 0, 1) := dk_42 (dk_at dksX2_slides_1 3 rfl rfl)
theorem dX2_slides_27 : decode cX2_slides 27 = .ok (.iload_n 2, 1) := dk_28 (dk_at dksX2_slides_1 4 rfl rfl)
theorem dX2_slides_28 : decode cX2_slides 28 = .ok (.invokevirtual 53, 3) := dk_182 0 53 (dk_at dksX2_slides_1 5 rfl rfl)
theorem dX2_slides_31 : decode cX2_slides 31 = .ok (.istore_n 3, 1) := dk_62 (dk_at dksX2_slides_1 8 rfl rfl)
theorem dX2_slides_32 : decode cX2_slides 32 = .ok (.aload_n 0, 1) := dk_42 (dk_at dksX2_slides_1 9 rfl rfl)
theorem dX2_slides_33 : decode cX2_slides 33 = .ok (.getfield 7, 3) := dk_180 0 7 (dk_at dksX2_slides_1 10 rfl rfl)
theorem dX2_slides_36 : decode cX2_slides 36 = .ok (.bipush 22, 2) := dk_16 22 (dk_at dksX2_slides_1 13 rfl rfl)
theorem dX2_slides_38 : decode cX2_slides 38 = .ok (.iload_n 2, 1) := dk_28 (dk_at dksX2_slides_1 15 rfl rfl)
theorem dX2_slides_39 : decode cX2_slides 39 = .ok (.iadd, 1) := dk_96 (dk_at dksX2_slides_1 16 rfl rfl)
theorem dX2_slides_40 : decode cX2_slides 40 = .ok (.dup2, 1) := dk_92 (dk_at dksX2_slides_1 17 rfl rfl)
theorem dX2_slides_41 : decode cX2_slides 41 = .ok (.iaload, 1) := dk_46 (dk_at dksX2_slides_1 18 rfl rfl)
theorem dX2_slides_42 : decode cX2_slides 42 = .ok (.iconst 1, 1) := dk_4 (dk_at dksX2_slides_1 19 rfl rfl)
theorem dX2_slides_43 : decode cX2_slides 43 = .ok (.isub, 1) := dk_100 (dk_at dksX2_slides_1 20 rfl rfl)
theorem dX2_slides_44 : decode cX2_slides 44 = .ok (.iastore, 1) := dk_79 (dk_at dksX2_slides_1 21 rfl rfl)
theorem dX2_slides_45 : decode cX2_slides 45 = .ok (.aload_n 0, 1) := dk_42 (dk_at dksX2_slides_1 22 rfl rfl)
theorem dX2_slides_46 : decode cX2_slides 46 = .ok (.getfield 7, 3) := dk_180 0 7 (dk_at dksX2_slides_2 0 rfl rfl)
theorem dX2_slides_49 : decode cX2_slides 49 = .ok (.bipush 22, 2) := dk_16 22 (dk_at dksX2_slides_2 3 rfl rfl)
theorem dX2_slides_51 : decode cX2_slides 51 = .ok (.iload_n 3, 1) := dk_29 (dk_at dksX2_slides_2 5 rfl rfl)
theorem dX2_slides_52 : decode cX2_slides 52 = .ok (.iadd, 1) := dk_96 (dk_at dksX2_slides_2 6 rfl rfl)
theorem dX2_slides_53 : decode cX2_slides 53 = .ok (.dup2, 1) := dk_92 (dk_at dksX2_slides_2 7 rfl rfl)
theorem dX2_slides_54 : decode cX2_slides 54 = .ok (.iaload, 1) := dk_46 (dk_at dksX2_slides_2 8 rfl rfl)
theorem dX2_slides_55 : decode cX2_slides 55 = .ok (.iconst 1, 1) := dk_4 (dk_at dksX2_slides_2 9 rfl rfl)
theorem dX2_slides_56 : decode cX2_slides 56 = .ok (.iadd, 1) := dk_96 (dk_at dksX2_slides_2 10 rfl rfl)
theorem dX2_slides_57 : decode cX2_slides 57 = .ok (.iastore, 1) := dk_79 (dk_at dksX2_slides_2 11 rfl rfl)
theorem dX2_slides_58 : decode cX2_slides 58 = .ok (.iinc 1 1, 3) := dk_132 1 1 (dk_at dksX2_slides_2 12 rfl rfl)
theorem dX2_slides_61 : decode cX2_slides 61 = .ok (.iconst 0, 1) := dk_3 (dk_at dksX2_slides_2 15 rfl rfl)
theorem dX2_slides_62 : decode cX2_slides 62 = .ok (.istore_n 2, 1) := dk_61 (dk_at dksX2_slides_2 16 rfl rfl)
theorem dX2_slides_63 : decode cX2_slides 63 = .ok (.goto (-59), 3) := dk_167 255 197 (dk_at dksX2_slides_2 17 rfl rfl)
theorem dX2_slides_66 : decode cX2_slides 66 = .ok (.aload_n 0, 1) := dk_42 (dk_at dksX2_slides_2 20 rfl rfl)
theorem dX2_slides_67 : decode cX2_slides 67 = .ok (.getfield 7, 3) := dk_180 0 7 (dk_at dksX2_slides_2 21 rfl rfl)
theorem dX2_slides_70 : decode cX2_slides 70 = .ok (.bipush 18, 2) := dk_16 18 (dk_at dksX2_slides_3 0 rfl rfl)
theorem dX2_slides_72 : decode cX2_slides 72 = .ok (.dup2, 1) := dk_92 (dk_at dksX2_slides_3 2 rfl rfl)
theorem dX2_slides_73 : decode cX2_slides 73 = .ok (.iaload, 1) := dk_46 (dk_at dksX2_slides_3 3 rfl rfl)
theorem dX2_slides_74 : decode cX2_slides 74 = .ok (.iload_n 1, 1) := dk_27 (dk_at dksX2_slides_3 4 rfl rfl)
theorem dX2_slides_75 : decode cX2_slides 75 = .ok (.iadd, 1) := dk_96 (dk_at dksX2_slides_3 5 rfl rfl)
theorem dX2_slides_76 : decode cX2_slides 76 = .ok (.iastore, 1) := dk_79 (dk_at dksX2_slides_3 6 rfl rfl)
theorem dX2_slides_77 : decode cX2_slides 77 = .ok (.iload_n 1, 1) := dk_27 (dk_at dksX2_slides_3 7 rfl rfl)
theorem dX2_slides_78 : decode cX2_slides 78 = .ok (.ireturn, 1) := dk_172 (dk_at dksX2_slides_3 8 rfl rfl)
abbrev cX2_canSlide : ByteArray := prog_10_method_15_code
def yX2_canSlide : MethodName := ⟨RX2, "canSlide", "(I)Z"⟩
def dkwX2_canSlide_1 : List UInt8 := [167, 0, 4, 3, 172]
abbrev dktX2_canSlide_1 : List UInt8 := dkwX2_canSlide_1 ++ []
def dkwX2_canSlide_0 : List UInt8 := [42, 180, 0, 7, 16, 31, 27, 96, 46, 154, 0, 16, 42, 27, 182, 0, 53, 2, 159, 0, 7, 4]
abbrev dktX2_canSlide_0 : List UInt8 := dkwX2_canSlide_0 ++ dktX2_canSlide_1
theorem dksX2_canSlide_0 : cX2_canSlide.data.toList.drop 0 = dktX2_canSlide_0 := by decide +kernel
theorem dksX2_canSlide_1 : cX2_canSlide.data.toList.drop 22 = dktX2_canSlide_1 := dk_seg dksX2_canSlide_0 22 rfl rfl
theorem dX2_canSlide_0 : decode cX2_canSlide 0 = .ok (.aload_n 0, 1) := dk_42 (dk_at dksX2_canSlide_0 0 rfl rfl)
theorem dX2_canSlide_1 : decode cX2_canSlide 1 = .ok (.getfield 7, 3) := dk_180 0 7 (dk_at dksX2_canSlide_0 1 rfl rfl)
theorem dX2_canSlide_4 : decode cX2_canSlide 4 = .ok (.bipush 31, 2) := dk_16 31 (dk_at dksX2_canSlide_0 4 rfl rfl)
theorem dX2_canSlide_6 : decode cX2_canSlide 6 = .ok (.iload_n 1, 1) := dk_27 (dk_at dksX2_canSlide_0 6 rfl rfl)
theorem dX2_canSlide_7 : decode cX2_canSlide 7 = .ok (.iadd, 1) := dk_96 (dk_at dksX2_canSlide_0 7 rfl rfl)
theorem dX2_canSlide_8 : decode cX2_canSlide 8 = .ok (.iaload, 1) := dk_46 (dk_at dksX2_canSlide_0 8 rfl rfl)
theorem dX2_canSlide_9 : decode cX2_canSlide 9 = .ok (.ifCond .ne 16, 3) := dk_154 0 16 (dk_at dksX2_canSlide_0 9 rfl rfl)
theorem dX2_canSlide_12 : decode cX2_canSlide 12 = .ok (.aload_n 0, 1) := dk_42 (dk_at dksX2_canSlide_0 12 rfl rfl)
theorem dX2_canSlide_13 : decode cX2_canSlide 13 = .ok (.iload_n 1, 1) := dk_27 (dk_at dksX2_canSlide_0 13 rfl rfl)
theorem dX2_canSlide_14 : decode cX2_canSlide 14 = .ok (.invokevirtual 53, 3) := dk_182 0 53 (dk_at dksX2_canSlide_0 14 rfl rfl)
theorem dX2_canSlide_17 : decode cX2_canSlide 17 = .ok (.iconst (-1), 1) := dk_2 (dk_at dksX2_canSlide_0 17 rfl rfl)
theorem dX2_canSlide_18 : decode cX2_canSlide 18 = .ok (.if_icmp .eq 7, 3) := dk_159 0 7 (dk_at dksX2_canSlide_0 18 rfl rfl)
theorem dX2_canSlide_21 : decode cX2_canSlide 21 = .ok (.iconst 1, 1) := dk_4 (dk_at dksX2_canSlide_0 21 rfl rfl)
theorem dX2_canSlide_22 : decode cX2_canSlide 22 = .ok (.goto 4, 3) := dk_167 0 4 (dk_at dksX2_canSlide_1 0 rfl rfl)
theorem dX2_canSlide_25 : decode cX2_canSlide 25 = .ok (.iconst 0, 1) := dk_3 (dk_at dksX2_canSlide_1 3 rfl rfl)
theorem dX2_canSlide_26 : decode cX2_canSlide 26 = .ok (.ireturn, 1) := dk_172 (dk_at dksX2_canSlide_1 4 rfl rfl)
abbrev cX2_goal : ByteArray := prog_10_method_14_code
def yX2_goal : MethodName := ⟨RX2, "goal", "(I)I"⟩
def dkwX2_goal_3 : List UInt8 := [2, 172]
abbrev dktX2_goal_3 : List UInt8 := dkwX2_goal_3 ++ []
def dkwX2_goal_2 : List UInt8 := [42, 27, 182, 0, 49, 42, 28, 182, 0, 49, 100, 42, 180, 0, 7, 5, 46, 164, 0, 7, 28, 167, 0, 4]
abbrev dktX2_goal_2 : List UInt8 := dkwX2_goal_2 ++ dktX2_goal_3
def dkwX2_goal_1 : List UInt8 := [162, 0, 24, 42, 27, 4, 96, 182, 0, 49, 42, 27, 4, 100, 182, 0, 49, 162, 0, 7, 27, 4, 96, 61]
abbrev dktX2_goal_1 : List UInt8 := dkwX2_goal_1 ++ dktX2_goal_2
def dkwX2_goal_0 : List UInt8 := [27, 154, 0, 7, 4, 167, 0, 6, 27, 4, 100, 61, 27, 158, 0, 34, 27, 4, 96, 42, 182, 0, 45]
abbrev dktX2_goal_0 : List UInt8 := dkwX2_goal_0 ++ dktX2_goal_1
theorem dksX2_goal_0 : cX2_goal.data.toList.drop 0 = dktX2_goal_0 := by decide +kernel
theorem dksX2_goal_1 : cX2_goal.data.toList.drop 23 = dktX2_goal_1 := dk_seg dksX2_goal_0 23 rfl rfl
theorem dksX2_goal_2 : cX2_goal.data.toList.drop 47 = dktX2_goal_2 := dk_seg dksX2_goal_1 24 rfl rfl
theorem dksX2_goal_3 : cX2_goal.data.toList.drop 71 = dktX2_goal_3 := dk_seg dksX2_goal_2 24 rfl rfl
theorem dX2_goal_0 : decode cX2_goal 0 = .ok (.iload_n 1, 1) := dk_27 (dk_at dksX2_goal_0 0 rfl rfl)
theorem dX2_goal_1 : decode cX2_goal 1 = .ok (.ifCond .ne 7, 3) := dk_154 0 7 (dk_at dksX2_goal_0 1 rfl rfl)
theorem dX2_goal_4 : decode cX2_goal 4 = .ok (.iconst 1, 1) := dk_4 (dk_at dksX2_goal_0 4 rfl rfl)
theorem dX2_goal_5 : decode cX2_goal 5 = .ok (.goto 6, 3) := dk_167 0 6 (dk_at dksX2_goal_0 5 rfl rfl)
theorem dX2_goal_8 : decode cX2_goal 8 = .ok (.iload_n 1, 1) := dk_27 (dk_at dksX2_goal_0 8 rfl rfl)
theorem dX2_goal_9 : decode cX2_goal 9 = .ok (.iconst 1, 1) := dk_4 (dk_at dksX2_goal_0 9 rfl rfl)
theorem dX2_goal_10 : decode cX2_goal 10 = .ok (.isub, 1) := dk_100 (dk_at dksX2_goal_0 10 rfl rfl)
theorem dX2_goal_11 : decode cX2_goal 11 = .ok (.istore_n 2, 1) := dk_61 (dk_at dksX2_goal_0 11 rfl rfl)
theorem dX2_goal_12 : decode cX2_goal 12 = .ok (.iload_n 1, 1) := dk_27 (dk_at dksX2_goal_0 12 rfl rfl)
theorem dX2_goal_13 : decode cX2_goal 13 = .ok (.ifCond .le 34, 3) := dk_158 0 34 (dk_at dksX2_goal_0 13 rfl rfl)
theorem dX2_goal_16 : decode cX2_goal 16 = .ok (.iload_n 1, 1) := dk_27 (dk_at dksX2_goal_0 16 rfl rfl)
theorem dX2_goal_17 : decode cX2_goal 17 = .ok (.iconst 1, 1) := dk_4 (dk_at dksX2_goal_0 17 rfl rfl)
theorem dX2_goal_18 : decode cX2_goal 18 = .ok (.iadd, 1) := dk_96 (dk_at dksX2_goal_0 18 rfl rfl)
theorem dX2_goal_19 : decode cX2_goal 19 = .ok (.aload_n 0, 1) := dk_42 (dk_at dksX2_goal_0 19 rfl rfl)
theorem dX2_goal_20 : decode cX2_goal 20 = .ok (.invokevirtual 45, 3) := dk_182 0 45 (dk_at dksX2_goal_0 20 rfl rfl)
theorem dX2_goal_23 : decode cX2_goal 23 = .ok (.if_icmp .ge 24, 3) := dk_162 0 24 (dk_at dksX2_goal_1 0 rfl rfl)
theorem dX2_goal_26 : decode cX2_goal 26 = .ok (.aload_n 0, 1) := dk_42 (dk_at dksX2_goal_1 3 rfl rfl)
theorem dX2_goal_27 : decode cX2_goal 27 = .ok (.iload_n 1, 1) := dk_27 (dk_at dksX2_goal_1 4 rfl rfl)
theorem dX2_goal_28 : decode cX2_goal 28 = .ok (.iconst 1, 1) := dk_4 (dk_at dksX2_goal_1 5 rfl rfl)
theorem dX2_goal_29 : decode cX2_goal 29 = .ok (.iadd, 1) := dk_96 (dk_at dksX2_goal_1 6 rfl rfl)
theorem dX2_goal_30 : decode cX2_goal 30 = .ok (.invokevirtual 49, 3) := dk_182 0 49 (dk_at dksX2_goal_1 7 rfl rfl)
theorem dX2_goal_33 : decode cX2_goal 33 = .ok (.aload_n 0, 1) := dk_42 (dk_at dksX2_goal_1 10 rfl rfl)
theorem dX2_goal_34 : decode cX2_goal 34 = .ok (.iload_n 1, 1) := dk_27 (dk_at dksX2_goal_1 11 rfl rfl)
theorem dX2_goal_35 : decode cX2_goal 35 = .ok (.iconst 1, 1) := dk_4 (dk_at dksX2_goal_1 12 rfl rfl)
theorem dX2_goal_36 : decode cX2_goal 36 = .ok (.isub, 1) := dk_100 (dk_at dksX2_goal_1 13 rfl rfl)
theorem dX2_goal_37 : decode cX2_goal 37 = .ok (.invokevirtual 49, 3) := dk_182 0 49 (dk_at dksX2_goal_1 14 rfl rfl)
theorem dX2_goal_40 : decode cX2_goal 40 = .ok (.if_icmp .ge 7, 3) := dk_162 0 7 (dk_at dksX2_goal_1 17 rfl rfl)
theorem dX2_goal_43 : decode cX2_goal 43 = .ok (.iload_n 1, 1) := dk_27 (dk_at dksX2_goal_1 20 rfl rfl)
theorem dX2_goal_44 : decode cX2_goal 44 = .ok (.iconst 1, 1) := dk_4 (dk_at dksX2_goal_1 21 rfl rfl)
theorem dX2_goal_45 : decode cX2_goal 45 = .ok (.iadd, 1) := dk_96 (dk_at dksX2_goal_1 22 rfl rfl)
theorem dX2_goal_46 : decode cX2_goal 46 = .ok (.istore_n 2, 1) := dk_61 (dk_at dksX2_goal_1 23 rfl rfl)
theorem dX2_goal_47 : decode cX2_goal 47 = .ok (.aload_n 0, 1) := dk_42 (dk_at dksX2_goal_2 0 rfl rfl)
theorem dX2_goal_48 : decode cX2_goal 48 = .ok (.iload_n 1, 1) := dk_27 (dk_at dksX2_goal_2 1 rfl rfl)
theorem dX2_goal_49 : decode cX2_goal 49 = .ok (.invokevirtual 49, 3) := dk_182 0 49 (dk_at dksX2_goal_2 2 rfl rfl)
theorem dX2_goal_52 : decode cX2_goal 52 = .ok (.aload_n 0, 1) := dk_42 (dk_at dksX2_goal_2 5 rfl rfl)
theorem dX2_goal_53 : decode cX2_goal 53 = .ok (.iload_n 2, 1) := dk_28 (dk_at dksX2_goal_2 6 rfl rfl)
theorem dX2_goal_54 : decode cX2_goal 54 = .ok (.invokevirtual 49, 3) := dk_182 0 49 (dk_at dksX2_goal_2 7 rfl rfl)
theorem dX2_goal_57 : decode cX2_goal 57 = .ok (.isub, 1) := dk_100 (dk_at dksX2_goal_2 10 rfl rfl)
theorem dX2_goal_58 : decode cX2_goal 58 = .ok (.aload_n 0, 1) := dk_42 (dk_at dksX2_goal_2 11 rfl rfl)
theorem dX2_goal_59 : decode cX2_goal 59 = .ok (.getfield 7, 3) := dk_180 0 7 (dk_at dksX2_goal_2 12 rfl rfl)
theorem dX2_goal_62 : decode cX2_goal 62 = .ok (.iconst 2, 1) := dk_5 (dk_at dksX2_goal_2 15 rfl rfl)
theorem dX2_goal_63 : decode cX2_goal 63 = .ok (.iaload, 1) := dk_46 (dk_at dksX2_goal_2 16 rfl rfl)
theorem dX2_goal_64 : decode cX2_goal 64 = .ok (.if_icmp .le 7, 3) := dk_164 0 7 (dk_at dksX2_goal_2 17 rfl rfl)
theorem dX2_goal_67 : decode cX2_goal 67 = .ok (.iload_n 2, 1) := dk_28 (dk_at dksX2_goal_2 20 rfl rfl)
theorem dX2_goal_68 : decode cX2_goal 68 = .ok (.goto 4, 3) := dk_167 0 4 (dk_at dksX2_goal_2 21 rfl rfl)
theorem dX2_goal_71 : decode cX2_goal 71 = .ok (.iconst (-1), 1) := dk_2 (dk_at dksX2_goal_3 0 rfl rfl)
theorem dX2_goal_72 : decode cX2_goal 72 = .ok (.ireturn, 1) := dk_172 (dk_at dksX2_goal_3 1 rfl rfl)
abbrev cX2_barLine : ByteArray := prog_10_method_53_code
def yX2_barLine : MethodName := ⟨RX2, "barLine", "()V"⟩
def dkwX2_barLine_6 : List UInt8 := [79, 42, 180, 0, 7, 16, 21, 92, 46, 4, 96, 79, 177]
abbrev dktX2_barLine_6 : List UInt8 := dkwX2_barLine_6 ++ []
def dkwX2_barLine_5 : List UInt8 := [46, 104, 96, 27, 79, 42, 180, 0, 7, 16, 40, 5, 42, 180, 0, 7, 16, 21, 46, 104, 96, 4, 96, 28]
abbrev dktX2_barLine_5 : List UInt8 := dkwX2_barLine_5 ++ dktX2_barLine_6
def dkwX2_barLine_4 : List UInt8 := [182, 0, 186, 61, 42, 180, 0, 149, 154, 0, 52, 42, 180, 0, 7, 16, 40, 5, 42, 180, 0, 7, 16, 21]
abbrev dktX2_barLine_4 : List UInt8 := dkwX2_barLine_4 ++ dktX2_barLine_5
def dkwX2_barLine_3 : List UInt8 := [167, 0, 4, 3, 6, 182, 0, 189, 132, 2, 1, 167, 255, 216, 42, 182, 0, 177, 42, 4, 16, 99]
abbrev dktX2_barLine_3 : List UInt8 := dkwX2_barLine_3 ++ dktX2_barLine_4
def dkwX2_barLine_2 : List UInt8 := [28, 42, 180, 0, 7, 16, 21, 46, 162, 0, 28, 42, 42, 28, 182, 0, 89, 27, 160, 0, 7, 4]
abbrev dktX2_barLine_2 : List UInt8 := dkwX2_barLine_2 ++ dktX2_barLine_3
def dkwX2_barLine_1 : List UInt8 := [182, 0, 177, 42, 3, 42, 182, 0, 60, 4, 100, 182, 0, 174, 60, 3, 61, 42, 180, 0, 149, 154, 0, 39]
abbrev dktX2_barLine_1 : List UInt8 := dkwX2_barLine_1 ++ dktX2_barLine_2
def dkwX2_barLine_0 : List UInt8 := [42, 42, 180, 0, 7, 16, 21, 46, 16, 6, 160, 0, 7, 4, 167, 0, 4, 3, 7, 182, 0, 189, 42]
abbrev dktX2_barLine_0 : List UInt8 := dkwX2_barLine_0 ++ dktX2_barLine_1
theorem dksX2_barLine_0 : cX2_barLine.data.toList.drop 0 = dktX2_barLine_0 := by decide +kernel
theorem dksX2_barLine_1 : cX2_barLine.data.toList.drop 23 = dktX2_barLine_1 := dk_seg dksX2_barLine_0 23 rfl rfl
theorem dksX2_barLine_2 : cX2_barLine.data.toList.drop 47 = dktX2_barLine_2 := dk_seg dksX2_barLine_1 24 rfl rfl
theorem dksX2_barLine_3 : cX2_barLine.data.toList.drop 69 = dktX2_barLine_3 := dk_seg dksX2_barLine_2 22 rfl rfl
theorem dksX2_barLine_4 : cX2_barLine.data.toList.drop 91 = dktX2_barLine_4 := dk_seg dksX2_barLine_3 22 rfl rfl
theorem dksX2_barLine_5 : cX2_barLine.data.toList.drop 115 = dktX2_barLine_5 := dk_seg dksX2_barLine_4 24 rfl rfl
theorem dksX2_barLine_6 : cX2_barLine.data.toList.drop 139 = dktX2_barLine_6 := dk_seg dksX2_barLine_5 24 rfl rfl
theorem dX2_barLine_0 : decode cX2_barLine 0 = .ok (.aload_n 0, 1) := dk_42 (dk_at dksX2_barLine_0 0 rfl rfl)
theorem dX2_barLine_1 : decode cX2_barLine 1 = .ok (.aload_n 0, 1) := dk_42 (dk_at dksX2_barLine_0 1 rfl rfl)
theorem dX2_barLine_2 : decode cX2_barLine 2 = .ok (.getfield 7, 3) := dk_180 0 7 (dk_at dksX2_barLine_0 2 rfl rfl)
theorem dX2_barLine_5 : decode cX2_barLine 5 = .ok (.bipush 21, 2) := dk_16 21 (dk_at dksX2_barLine_0 5 rfl rfl)
theorem dX2_barLine_7 : decode cX2_barLine 7 = .ok (.iaload, 1) := dk_46 (dk_at dksX2_barLine_0 7 rfl rfl)
theorem dX2_barLine_8 : decode cX2_barLine 8 = .ok (.bipush 6, 2) := dk_16 6 (dk_at dksX2_barLine_0 8 rfl rfl)
theorem dX2_barLine_10 : decode cX2_barLine 10 = .ok (.if_icmp .ne 7, 3) := dk_160 0 7 (dk_at dksX2_barLine_0 10 rfl rfl)
theorem dX2_barLine_13 : decode cX2_barLine 13 = .ok (.iconst 1, 1) := dk_4 (dk_at dksX2_barLine_0 13 rfl rfl)
theorem dX2_barLine_14 : decode cX2_barLine 14 = .ok (.goto 4, 3) := dk_167 0 4 (dk_at dksX2_barLine_0 14 rfl rfl)
theorem dX2_barLine_17 : decode cX2_barLine 17 = .ok (.iconst 0, 1) := dk_3 (dk_at dksX2_barLine_0 17 rfl rfl)
theorem dX2_barLine_18 : decode cX2_barLine 18 = .ok (.iconst 4, 1) := dk_7 (dk_at dksX2_barLine_0 18 rfl rfl)
theorem dX2_barLine_19 : decode cX2_barLine 19 = .ok (.invokevirtual 189, 3) := dk_182 0 189 (dk_at dksX2_barLine_0 19 rfl rfl)
theorem dX2_barLine_22 : decode cX2_barLine 22 = .ok (.aload_n 0, 1) := dk_42 (dk_at dksX2_barLine_0 22 rfl rfl)
theorem dX2_barLine_23 : decode cX2_barLine 23 = .ok (.invokevirtual 177, 3) := dk_182 0 177 (dk_at dksX2_barLine_1 0 rfl rfl)
theorem dX2_barLine_26 : decode cX2_barLine 26 = .ok (.aload_n 0, 1) := dk_42 (dk_at dksX2_barLine_1 3 rfl rfl)
theorem dX2_barLine_27 : decode cX2_barLine 27 = .ok (.iconst 0, 1) := dk_3 (dk_at dksX2_barLine_1 4 rfl rfl)
theorem dX2_barLine_28 : decode cX2_barLine 28 = .ok (.aload_n 0, 1) := dk_42 (dk_at dksX2_barLine_1 5 rfl rfl)
theorem dX2_barLine_29 : decode cX2_barLine 29 = .ok (.invokevirtual 60, 3) := dk_182 0 60 (dk_at dksX2_barLine_1 6 rfl rfl)
theorem dX2_barLine_32 : decode cX2_barLine 32 = .ok (.iconst 1, 1) := dk_4 (dk_at dksX2_barLine_1 9 rfl rfl)
theorem dX2_barLine_33 : decode cX2_barLine 33 = .ok (.isub, 1) := dk_100 (dk_at dksX2_barLine_1 10 rfl rfl)
theorem dX2_barLine_34 : decode cX2_barLine 34 = .ok (.invokevirtual 174, 3) := dk_182 0 174 (dk_at dksX2_barLine_1 11 rfl rfl)
theorem dX2_barLine_37 : decode cX2_barLine 37 = .ok (.istore_n 1, 1) := dk_60 (dk_at dksX2_barLine_1 14 rfl rfl)
theorem dX2_barLine_38 : decode cX2_barLine 38 = .ok (.iconst 0, 1) := dk_3 (dk_at dksX2_barLine_1 15 rfl rfl)
theorem dX2_barLine_39 : decode cX2_barLine 39 = .ok (.istore_n 2, 1) := dk_61 (dk_at dksX2_barLine_1 16 rfl rfl)
theorem dX2_barLine_40 : decode cX2_barLine 40 = .ok (.aload_n 0, 1) := dk_42 (dk_at dksX2_barLine_1 17 rfl rfl)
theorem dX2_barLine_41 : decode cX2_barLine 41 = .ok (.getfield 149, 3) := dk_180 0 149 (dk_at dksX2_barLine_1 18 rfl rfl)
theorem dX2_barLine_44 : decode cX2_barLine 44 = .ok (.ifCond .ne 39, 3) := dk_154 0 39 (dk_at dksX2_barLine_1 21 rfl rfl)
theorem dX2_barLine_47 : decode cX2_barLine 47 = .ok (.iload_n 2, 1) := dk_28 (dk_at dksX2_barLine_2 0 rfl rfl)
theorem dX2_barLine_48 : decode cX2_barLine 48 = .ok (.aload_n 0, 1) := dk_42 (dk_at dksX2_barLine_2 1 rfl rfl)
theorem dX2_barLine_49 : decode cX2_barLine 49 = .ok (.getfield 7, 3) := dk_180 0 7 (dk_at dksX2_barLine_2 2 rfl rfl)
theorem dX2_barLine_52 : decode cX2_barLine 52 = .ok (.bipush 21, 2) := dk_16 21 (dk_at dksX2_barLine_2 5 rfl rfl)
theorem dX2_barLine_54 : decode cX2_barLine 54 = .ok (.iaload, 1) := dk_46 (dk_at dksX2_barLine_2 7 rfl rfl)
theorem dX2_barLine_55 : decode cX2_barLine 55 = .ok (.if_icmp .ge 28, 3) := dk_162 0 28 (dk_at dksX2_barLine_2 8 rfl rfl)
theorem dX2_barLine_58 : decode cX2_barLine 58 = .ok (.aload_n 0, 1) := dk_42 (dk_at dksX2_barLine_2 11 rfl rfl)
theorem dX2_barLine_59 : decode cX2_barLine 59 = .ok (.aload_n 0, 1) := dk_42 (dk_at dksX2_barLine_2 12 rfl rfl)
theorem dX2_barLine_60 : decode cX2_barLine 60 = .ok (.iload_n 2, 1) := dk_28 (dk_at dksX2_barLine_2 13 rfl rfl)
theorem dX2_barLine_61 : decode cX2_barLine 61 = .ok (.invokevirtual 89, 3) := dk_182 0 89 (dk_at dksX2_barLine_2 14 rfl rfl)
theorem dX2_barLine_64 : decode cX2_barLine 64 = .ok (.iload_n 1, 1) := dk_27 (dk_at dksX2_barLine_2 17 rfl rfl)
theorem dX2_barLine_65 : decode cX2_barLine 65 = .ok (.if_icmp .ne 7, 3) := dk_160 0 7 (dk_at dksX2_barLine_2 18 rfl rfl)
theorem dX2_barLine_68 : decode cX2_barLine 68 = .ok (.iconst 1, 1) := dk_4 (dk_at dksX2_barLine_2 21 rfl rfl)
theorem dX2_barLine_69 : decode cX2_barLine 69 = .ok (.goto 4, 3) := dk_167 0 4 (dk_at dksX2_barLine_3 0 rfl rfl)
theorem dX2_barLine_72 : decode cX2_barLine 72 = .ok (.iconst 0, 1) := dk_3 (dk_at dksX2_barLine_3 3 rfl rfl)
theorem dX2_barLine_73 : decode cX2_barLine 73 = .ok (.iconst 3, 1) := dk_6 (dk_at dksX2_barLine_3 4 rfl rfl)
theorem dX2_barLine_74 : decode cX2_barLine 74 = .ok (.invokevirtual 189, 3) := dk_182 0 189 (dk_at dksX2_barLine_3 5 rfl rfl)
theorem dX2_barLine_77 : decode cX2_barLine 77 = .ok (.iinc 2 1, 3) := dk_132 2 1 (dk_at dksX2_barLine_3 8 rfl rfl)
theorem dX2_barLine_80 : decode cX2_barLine 80 = .ok (.goto (-40), 3) := dk_167 255 216 (dk_at dksX2_barLine_3 11 rfl rfl)
theorem dX2_barLine_83 : decode cX2_barLine 83 = .ok (.aload_n 0, 1) := dk_42 (dk_at dksX2_barLine_3 14 rfl rfl)
theorem dX2_barLine_84 : decode cX2_barLine 84 = .ok (.invokevirtual 177, 3) := dk_182 0 177 (dk_at dksX2_barLine_3 15 rfl rfl)
theorem dX2_barLine_87 : decode cX2_barLine 87 = .ok (.aload_n 0, 1) := dk_42 (dk_at dksX2_barLine_3 18 rfl rfl)
theorem dX2_barLine_88 : decode cX2_barLine 88 = .ok (.iconst 1, 1) := dk_4 (dk_at dksX2_barLine_3 19 rfl rfl)
theorem dX2_barLine_89 : decode cX2_barLine 89 = .ok (.bipush 99, 2) := dk_16 99 (dk_at dksX2_barLine_3 20 rfl rfl)
theorem dX2_barLine_91 : decode cX2_barLine 91 = .ok (.invokevirtual 186, 3) := dk_182 0 186 (dk_at dksX2_barLine_4 0 rfl rfl)
theorem dX2_barLine_94 : decode cX2_barLine 94 = .ok (.istore_n 2, 1) := dk_61 (dk_at dksX2_barLine_4 3 rfl rfl)
theorem dX2_barLine_95 : decode cX2_barLine 95 = .ok (.aload_n 0, 1) := dk_42 (dk_at dksX2_barLine_4 4 rfl rfl)
theorem dX2_barLine_96 : decode cX2_barLine 96 = .ok (.getfield 149, 3) := dk_180 0 149 (dk_at dksX2_barLine_4 5 rfl rfl)
theorem dX2_barLine_99 : decode cX2_barLine 99 = .ok (.ifCond .ne 52, 3) := dk_154 0 52 (dk_at dksX2_barLine_4 8 rfl rfl)
theorem dX2_barLine_102 : decode cX2_barLine 102 = .ok (.aload_n 0, 1) := dk_42 (dk_at dksX2_barLine_4 11 rfl rfl)
theorem dX2_barLine_103 : decode cX2_barLine 103 = .ok (.getfield 7, 3) := dk_180 0 7 (dk_at dksX2_barLine_4 12 rfl rfl)
theorem dX2_barLine_106 : decode cX2_barLine 106 = .ok (.bipush 40, 2) := dk_16 40 (dk_at dksX2_barLine_4 15 rfl rfl)
theorem dX2_barLine_108 : decode cX2_barLine 108 = .ok (.iconst 2, 1) := dk_5 (dk_at dksX2_barLine_4 17 rfl rfl)
theorem dX2_barLine_109 : decode cX2_barLine 109 = .ok (.aload_n 0, 1) := dk_42 (dk_at dksX2_barLine_4 18 rfl rfl)
theorem dX2_barLine_110 : decode cX2_barLine 110 = .ok (.getfield 7, 3) := dk_180 0 7 (dk_at dksX2_barLine_4 19 rfl rfl)
theorem dX2_barLine_113 : decode cX2_barLine 113 = .ok (.bipush 21, 2) := dk_16 21 (dk_at dksX2_barLine_4 22 rfl rfl)
theorem dX2_barLine_115 : decode cX2_barLine 115 = .ok (.iaload, 1) := dk_46 (dk_at dksX2_barLine_5 0 rfl rfl)
theorem dX2_barLine_116 : decode cX2_barLine 116 = .ok (.imul, 1) := dk_104 (dk_at dksX2_barLine_5 1 rfl rfl)
theorem dX2_barLine_117 : decode cX2_barLine 117 = .ok (.iadd, 1) := dk_96 (dk_at dksX2_barLine_5 2 rfl rfl)
theorem dX2_barLine_118 : decode cX2_barLine 118 = .ok (.iload_n 1, 1) := dk_27 (dk_at dksX2_barLine_5 3 rfl rfl)
theorem dX2_barLine_119 : decode cX2_barLine 119 = .ok (.iastore, 1) := dk_79 (dk_at dksX2_barLine_5 4 rfl rfl)
theorem dX2_barLine_120 : decode cX2_barLine 120 = .ok (.aload_n 0, 1) := dk_42 (dk_at dksX2_barLine_5 5 rfl rfl)
theorem dX2_barLine_121 : decode cX2_barLine 121 = .ok (.getfield 7, 3) := dk_180 0 7 (dk_at dksX2_barLine_5 6 rfl rfl)
theorem dX2_barLine_124 : decode cX2_barLine 124 = .ok (.bipush 40, 2) := dk_16 40 (dk_at dksX2_barLine_5 9 rfl rfl)
theorem dX2_barLine_126 : decode cX2_barLine 126 = .ok (.iconst 2, 1) := dk_5 (dk_at dksX2_barLine_5 11 rfl rfl)
theorem dX2_barLine_127 : decode cX2_barLine 127 = .ok (.aload_n 0, 1) := dk_42 (dk_at dksX2_barLine_5 12 rfl rfl)
theorem dX2_barLine_128 : decode cX2_barLine 128 = .ok (.getfield 7, 3) := dk_180 0 7 (dk_at dksX2_barLine_5 13 rfl rfl)
theorem dX2_barLine_131 : decode cX2_barLine 131 = .ok (.bipush 21, 2) := dk_16 21 (dk_at dksX2_barLine_5 16 rfl rfl)
theorem dX2_barLine_133 : decode cX2_barLine 133 = .ok (.iaload, 1) := dk_46 (dk_at dksX2_barLine_5 18 rfl rfl)
theorem dX2_barLine_134 : decode cX2_barLine 134 = .ok (.imul, 1) := dk_104 (dk_at dksX2_barLine_5 19 rfl rfl)
theorem dX2_barLine_135 : decode cX2_barLine 135 = .ok (.iadd, 1) := dk_96 (dk_at dksX2_barLine_5 20 rfl rfl)
theorem dX2_barLine_136 : decode cX2_barLine 136 = .ok (.iconst 1, 1) := dk_4 (dk_at dksX2_barLine_5 21 rfl rfl)
theorem dX2_barLine_137 : decode cX2_barLine 137 = .ok (.iadd, 1) := dk_96 (dk_at dksX2_barLine_5 22 rfl rfl)
theorem dX2_barLine_138 : decode cX2_barLine 138 = .ok (.iload_n 2, 1) := dk_28 (dk_at dksX2_barLine_5 23 rfl rfl)
theorem dX2_barLine_139 : decode cX2_barLine 139 = .ok (.iastore, 1) := dk_79 (dk_at dksX2_barLine_6 0 rfl rfl)
theorem dX2_barLine_140 : decode cX2_barLine 140 = .ok (.aload_n 0, 1) := dk_42 (dk_at dksX2_barLine_6 1 rfl rfl)
theorem dX2_barLine_141 : decode cX2_barLine 141 = .ok (.getfield 7, 3) := dk_180 0 7 (dk_at dksX2_barLine_6 2 rfl rfl)
theorem dX2_barLine_144 : decode cX2_barLine 144 = .ok (.bipush 21, 2) := dk_16 21 (dk_at dksX2_barLine_6 5 rfl rfl)
theorem dX2_barLine_146 : decode cX2_barLine 146 = .ok (.dup2, 1) := dk_92 (dk_at dksX2_barLine_6 7 rfl rfl)
theorem dX2_barLine_147 : decode cX2_barLine 147 = .ok (.iaload, 1) := dk_46 (dk_at dksX2_barLine_6 8 rfl rfl)
theorem dX2_barLine_148 : decode cX2_barLine 148 = .ok (.iconst 1, 1) := dk_4 (dk_at dksX2_barLine_6 9 rfl rfl)
theorem dX2_barLine_149 : decode cX2_barLine 149 = .ok (.iadd, 1) := dk_96 (dk_at dksX2_barLine_6 10 rfl rfl)
theorem dX2_barLine_150 : decode cX2_barLine 150 = .ok (.iastore, 1) := dk_79 (dk_at dksX2_barLine_6 11 rfl rfl)
theorem dX2_barLine_151 : decode cX2_barLine 151 = .ok (.return_, 1) := dk_177 (dk_at dksX2_barLine_6 12 rfl rfl)
abbrev cX2_barWay : ByteArray := prog_10_method_27_code
def yX2_barWay : MethodName := ⟨RX2, "barWay", "(I)I"⟩
def dkwX2_barWay_0 : List UInt8 := [42, 180, 0, 7, 16, 40, 5, 27, 104, 96, 46, 172]
abbrev dktX2_barWay_0 : List UInt8 := dkwX2_barWay_0 ++ []
theorem dksX2_barWay_0 : cX2_barWay.data.toList.drop 0 = dktX2_barWay_0 := by decide +kernel
theorem dX2_barWay_0 : decode cX2_barWay 0 = .ok (.aload_n 0, 1) := dk_42 (dk_at dksX2_barWay_0 0 rfl rfl)
theorem dX2_barWay_1 : decode cX2_barWay 1 = .ok (.getfield 7, 3) := dk_180 0 7 (dk_at dksX2_barWay_0 1 rfl rfl)
theorem dX2_barWay_4 : decode cX2_barWay 4 = .ok (.bipush 40, 2) := dk_16 40 (dk_at dksX2_barWay_0 4 rfl rfl)
theorem dX2_barWay_6 : decode cX2_barWay 6 = .ok (.iconst 2, 1) := dk_5 (dk_at dksX2_barWay_0 6 rfl rfl)
theorem dX2_barWay_7 : decode cX2_barWay 7 = .ok (.iload_n 1, 1) := dk_27 (dk_at dksX2_barWay_0 7 rfl rfl)
theorem dX2_barWay_8 : decode cX2_barWay 8 = .ok (.imul, 1) := dk_104 (dk_at dksX2_barWay_0 8 rfl rfl)
theorem dX2_barWay_9 : decode cX2_barWay 9 = .ok (.iadd, 1) := dk_96 (dk_at dksX2_barWay_0 9 rfl rfl)
theorem dX2_barWay_10 : decode cX2_barWay 10 = .ok (.iaload, 1) := dk_46 (dk_at dksX2_barWay_0 10 rfl rfl)
theorem dX2_barWay_11 : decode cX2_barWay 11 = .ok (.ireturn, 1) := dk_172 (dk_at dksX2_barWay_0 11 rfl rfl)
abbrev cX2_fillLine : ByteArray := prog_10_method_54_code
def yX2_fillLine : MethodName := ⟨RX2, "fillLine", "()V"⟩
def dkwX2_fillLine_2 : List UInt8 := [182, 0, 186, 61, 42, 180, 0, 149, 154, 0, 10, 42, 27, 28, 182, 0, 193, 62, 177]
abbrev dktX2_fillLine_2 : List UInt8 := dkwX2_fillLine_2 ++ []
def dkwX2_fillLine_1 : List UInt8 := [182, 0, 60, 160, 0, 7, 4, 167, 0, 4, 3, 7, 182, 0, 189, 42, 182, 0, 177, 42, 4, 16, 99]
abbrev dktX2_fillLine_1 : List UInt8 := dkwX2_fillLine_1 ++ dktX2_fillLine_2
def dkwX2_fillLine_0 : List UInt8 := [42, 182, 0, 177, 42, 182, 0, 180, 60, 42, 42, 180, 0, 149, 154, 0, 19, 42, 27, 182, 0, 49, 42]
abbrev dktX2_fillLine_0 : List UInt8 := dkwX2_fillLine_0 ++ dktX2_fillLine_1
theorem dksX2_fillLine_0 : cX2_fillLine.data.toList.drop 0 = dktX2_fillLine_0 := by decide +kernel
theorem dksX2_fillLine_1 : cX2_fillLine.data.toList.drop 23 = dktX2_fillLine_1 := dk_seg dksX2_fillLine_0 23 rfl rfl
theorem dksX2_fillLine_2 : cX2_fillLine.data.toList.drop 46 = dktX2_fillLine_2 := dk_seg dksX2_fillLine_1 23 rfl rfl
theorem dX2_fillLine_0 : decode cX2_fillLine 0 = .ok (.aload_n 0, 1) := dk_42 (dk_at dksX2_fillLine_0 0 rfl rfl)
theorem dX2_fillLine_1 : decode cX2_fillLine 1 = .ok (.invokevirtual 177, 3) := dk_182 0 177 (dk_at dksX2_fillLine_0 1 rfl rfl)
theorem dX2_fillLine_4 : decode cX2_fillLine 4 = .ok (.aload_n 0, 1) := dk_42 (dk_at dksX2_fillLine_0 4 rfl rfl)
theorem dX2_fillLine_5 : decode cX2_fillLine 5 = .ok (.invokevirtual 180, 3) := dk_182 0 180 (dk_at dksX2_fillLine_0 5 rfl rfl)
theorem dX2_fillLine_8 : decode cX2_fillLine 8 = .ok (.istore_n 1, 1) := dk_60 (dk_at dksX2_fillLine_0 8 rfl rfl)
theorem dX2_fillLine_9 : decode cX2_fillLine 9 = .ok (.aload_n 0, 1) := dk_42 (dk_at dksX2_fillLine_0 9 rfl rfl)
theorem dX2_fillLine_10 : decode cX2_fillLine 10 = .ok (.aload_n 0, 1) := dk_42 (dk_at dksX2_fillLine_0 10 rfl rfl)
theorem dX2_fillLine_11 : decode cX2_fillLine 11 = .ok (.getfield 149, 3) := dk_180 0 149 (dk_at dksX2_fillLine_0 11 rfl rfl)
theorem dX2_fillLine_14 : decode cX2_fillLine 14 = .ok (.ifCond .ne 19, 3) := dk_154 0 19 (dk_at dksX2_fillLine_0 14 rfl rfl)
theorem dX2_fillLine_17 : decode cX2_fillLine 17 = .ok (.aload_n 0, 1) := dk_42 (dk_at dksX2_fillLine_0 17 rfl rfl)
theorem dX2_fillLine_18 : decode cX2_fillLine 18 = .ok (.iload_n 1, 1) := dk_27 (dk_at dksX2_fillLine_0 18 rfl rfl)
theorem dX2_fillLine_19 : decode cX2_fillLine 19 = .ok (.invokevirtual 49, 3) := dk_182 0 49 (dk_at dksX2_fillLine_0 19 rfl rfl)
theorem dX2_fillLine_22 : decode cX2_fillLine 22 = .ok (.aload_n 0, 1) := dk_42 (dk_at dksX2_fillLine_0 22 rfl rfl)
theorem dX2_fillLine_23 : decode cX2_fillLine 23 = .ok (.invokevirtual 60, 3) := dk_182 0 60 (dk_at dksX2_fillLine_1 0 rfl rfl)
theorem dX2_fillLine_26 : decode cX2_fillLine 26 = .ok (.if_icmp .ne 7, 3) := dk_160 0 7 (dk_at dksX2_fillLine_1 3 rfl rfl)
theorem dX2_fillLine_29 : decode cX2_fillLine 29 = .ok (.iconst 1, 1) := dk_4 (dk_at dksX2_fillLine_1 6 rfl rfl)
theorem dX2_fillLine_30 : decode cX2_fillLine 30 = .ok (.goto 4, 3) := dk_167 0 4 (dk_at dksX2_fillLine_1 7 rfl rfl)
theorem dX2_fillLine_33 : decode cX2_fillLine 33 = .ok (.iconst 0, 1) := dk_3 (dk_at dksX2_fillLine_1 10 rfl rfl)
theorem dX2_fillLine_34 : decode cX2_fillLine 34 = .ok (.iconst 4, 1) := dk_7 (dk_at dksX2_fillLine_1 11 rfl rfl)
theorem dX2_fillLine_35 : decode cX2_fillLine 35 = .ok (.invokevirtual 189, 3) := dk_182 0 189 (dk_at dksX2_fillLine_1 12 rfl rfl)
theorem dX2_fillLine_38 : decode cX2_fillLine 38 = .ok (.aload_n 0, 1) := dk_42 (dk_at dksX2_fillLine_1 15 rfl rfl)
theorem dX2_fillLine_39 : decode cX2_fillLine 39 = .ok (.invokevirtual 177, 3) := dk_182 0 177 (dk_at dksX2_fillLine_1 16 rfl rfl)
theorem dX2_fillLine_42 : decode cX2_fillLine 42 = .ok (.aload_n 0, 1) := dk_42 (dk_at dksX2_fillLine_1 19 rfl rfl)
theorem dX2_fillLine_43 : decode cX2_fillLine 43 = .ok (.iconst 1, 1) := dk_4 (dk_at dksX2_fillLine_1 20 rfl rfl)
theorem dX2_fillLine_44 : decode cX2_fillLine 44 = .ok (.bipush 99, 2) := dk_16 99 (dk_at dksX2_fillLine_1 21 rfl rfl)
theorem dX2_fillLine_46 : decode cX2_fillLine 46 = .ok (.invokevirtual 186, 3) := dk_182 0 186 (dk_at dksX2_fillLine_2 0 rfl rfl)
theorem dX2_fillLine_49 : decode cX2_fillLine 49 = .ok (.istore_n 2, 1) := dk_61 (dk_at dksX2_fillLine_2 3 rfl rfl)
theorem dX2_fillLine_50 : decode cX2_fillLine 50 = .ok (.aload_n 0, 1) := dk_42 (dk_at dksX2_fillLine_2 4 rfl rfl)
theorem dX2_fillLine_51 : decode cX2_fillLine 51 = .ok (.getfield 149, 3) := dk_180 0 149 (dk_at dksX2_fillLine_2 5 rfl rfl)
theorem dX2_fillLine_54 : decode cX2_fillLine 54 = .ok (.ifCond .ne 10, 3) := dk_154 0 10 (dk_at dksX2_fillLine_2 8 rfl rfl)
theorem dX2_fillLine_57 : decode cX2_fillLine 57 = .ok (.aload_n 0, 1) := dk_42 (dk_at dksX2_fillLine_2 11 rfl rfl)
theorem dX2_fillLine_58 : decode cX2_fillLine 58 = .ok (.iload_n 1, 1) := dk_27 (dk_at dksX2_fillLine_2 12 rfl rfl)
theorem dX2_fillLine_59 : decode cX2_fillLine 59 = .ok (.iload_n 2, 1) := dk_28 (dk_at dksX2_fillLine_2 13 rfl rfl)
theorem dX2_fillLine_60 : decode cX2_fillLine 60 = .ok (.invokevirtual 193, 3) := dk_182 0 193 (dk_at dksX2_fillLine_2 14 rfl rfl)
theorem dX2_fillLine_63 : decode cX2_fillLine 63 = .ok (.istore_n 3, 1) := dk_62 (dk_at dksX2_fillLine_2 17 rfl rfl)
theorem dX2_fillLine_64 : decode cX2_fillLine 64 = .ok (.return_, 1) := dk_177 (dk_at dksX2_fillLine_2 18 rfl rfl)
abbrev cX2_fills : ByteArray := prog_10_method_18_code
def yX2_fills : MethodName := ⟨RX2, "fills", "(II)I"⟩
def dkwX2_fills_1 : List UInt8 := [132, 4, 1, 167, 255, 236, 29, 172]
abbrev dktX2_fills_1 : List UInt8 := dkwX2_fills_1 ++ []
def dkwX2_fills_0 : List UInt8 := [3, 62, 3, 54, 4, 21, 4, 28, 162, 0, 20, 29, 42, 27, 182, 0, 72, 184, 0, 75, 96, 62]
abbrev dktX2_fills_0 : List UInt8 := dkwX2_fills_0 ++ dktX2_fills_1
theorem dksX2_fills_0 : cX2_fills.data.toList.drop 0 = dktX2_fills_0 := by decide +kernel
theorem dksX2_fills_1 : cX2_fills.data.toList.drop 22 = dktX2_fills_1 := dk_seg dksX2_fills_0 22 rfl rfl
theorem dX2_fills_0 : decode cX2_fills 0 = .ok (.iconst 0, 1) := dk_3 (dk_at dksX2_fills_0 0 rfl rfl)
theorem dX2_fills_1 : decode cX2_fills 1 = .ok (.istore_n 3, 1) := dk_62 (dk_at dksX2_fills_0 1 rfl rfl)
theorem dX2_fills_2 : decode cX2_fills 2 = .ok (.iconst 0, 1) := dk_3 (dk_at dksX2_fills_0 2 rfl rfl)
theorem dX2_fills_3 : decode cX2_fills 3 = .ok (.istore 4, 2) := dk_54 4 (dk_at dksX2_fills_0 3 rfl rfl)
theorem dX2_fills_5 : decode cX2_fills 5 = .ok (.iload 4, 2) := dk_21 4 (dk_at dksX2_fills_0 5 rfl rfl)
theorem dX2_fills_7 : decode cX2_fills 7 = .ok (.iload_n 2, 1) := dk_28 (dk_at dksX2_fills_0 7 rfl rfl)
theorem dX2_fills_8 : decode cX2_fills 8 = .ok (.if_icmp .ge 20, 3) := dk_162 0 20 (dk_at dksX2_fills_0 8 rfl rfl)
theorem dX2_fills_11 : decode cX2_fills 11 = .ok (.iload_n 3, 1) := dk_29 (dk_at dksX2_fills_0 11 rfl rfl)
theorem dX2_fills_12 : decode cX2_fills 12 = .ok (.aload_n 0, 1) := dk_42 (dk_at dksX2_fills_0 12 rfl rfl)
theorem dX2_fills_13 : decode cX2_fills 13 = .ok (.iload_n 1, 1) := dk_27 (dk_at dksX2_fills_0 13 rfl rfl)
theorem dX2_fills_14 : decode cX2_fills 14 = .ok (.invokevirtual 72, 3) := dk_182 0 72 (dk_at dksX2_fills_0 14 rfl rfl)
theorem dX2_fills_17 : decode cX2_fills 17 = .ok (.invokestatic 75, 3) := dk_184 0 75 (dk_at dksX2_fills_0 17 rfl rfl)
theorem dX2_fills_20 : decode cX2_fills 20 = .ok (.iadd, 1) := dk_96 (dk_at dksX2_fills_0 20 rfl rfl)
theorem dX2_fills_21 : decode cX2_fills 21 = .ok (.istore_n 3, 1) := dk_62 (dk_at dksX2_fills_0 21 rfl rfl)
theorem dX2_fills_22 : decode cX2_fills 22 = .ok (.iinc 4 1, 3) := dk_132 4 1 (dk_at dksX2_fills_1 0 rfl rfl)
theorem dX2_fills_25 : decode cX2_fills 25 = .ok (.goto (-20), 3) := dk_167 255 236 (dk_at dksX2_fills_1 3 rfl rfl)
theorem dX2_fills_28 : decode cX2_fills 28 = .ok (.iload_n 3, 1) := dk_29 (dk_at dksX2_fills_1 6 rfl rfl)
theorem dX2_fills_29 : decode cX2_fills 29 = .ok (.ireturn, 1) := dk_172 (dk_at dksX2_fills_1 7 rfl rfl)
abbrev cX2_fillsOne : ByteArray := prog_10_method_17_code
def yX2_fillsOne : MethodName := ⟨RX2, "fillsOne", "(I)Z"⟩
def dkwX2_fillsOne_3 : List UInt8 := [182, 0, 69, 61, 4, 172]
abbrev dktX2_fillsOne_3 : List UInt8 := dkwX2_fillsOne_3 ++ []
def dkwX2_fillsOne_2 : List UInt8 := [79, 42, 180, 0, 7, 16, 9, 16, 99, 42, 180, 0, 7, 16, 9, 46, 4, 96, 184, 0, 63, 79, 42]
abbrev dktX2_fillsOne_2 : List UInt8 := dkwX2_fillsOne_2 ++ dktX2_fillsOne_3
def dkwX2_fillsOne_1 : List UInt8 := [172, 42, 180, 0, 7, 16, 22, 27, 96, 92, 46, 4, 96, 79, 42, 180, 0, 7, 16, 14, 92, 46, 4, 96]
abbrev dktX2_fillsOne_1 : List UInt8 := dkwX2_fillsOne_1 ++ dktX2_fillsOne_2
def dkwX2_fillsOne_0 : List UInt8 := [42, 27, 182, 0, 49, 42, 182, 0, 60, 160, 0, 16, 42, 180, 0, 7, 16, 15, 92, 46, 4, 96, 79, 3]
abbrev dktX2_fillsOne_0 : List UInt8 := dkwX2_fillsOne_0 ++ dktX2_fillsOne_1
theorem dksX2_fillsOne_0 : cX2_fillsOne.data.toList.drop 0 = dktX2_fillsOne_0 := by decide +kernel
theorem dksX2_fillsOne_1 : cX2_fillsOne.data.toList.drop 24 = dktX2_fillsOne_1 := dk_seg dksX2_fillsOne_0 24 rfl rfl
theorem dksX2_fillsOne_2 : cX2_fillsOne.data.toList.drop 48 = dktX2_fillsOne_2 := dk_seg dksX2_fillsOne_1 24 rfl rfl
theorem dksX2_fillsOne_3 : cX2_fillsOne.data.toList.drop 71 = dktX2_fillsOne_3 := dk_seg dksX2_fillsOne_2 23 rfl rfl
theorem dX2_fillsOne_0 : decode cX2_fillsOne 0 = .ok (.aload_n 0, 1) := dk_42 (dk_at dksX2_fillsOne_0 0 rfl rfl)
theorem dX2_fillsOne_1 : decode cX2_fillsOne 1 = .ok (.iload_n 1, 1) := dk_27 (dk_at dksX2_fillsOne_0 1 rfl rfl)
theorem dX2_fillsOne_2 : decode cX2_fillsOne 2 = .ok (.invokevirtual 49, 3) := dk_182 0 49 (dk_at dksX2_fillsOne_0 2 rfl rfl)
theorem dX2_fillsOne_5 : decode cX2_fillsOne 5 = .ok (.aload_n 0, 1) := dk_42 (dk_at dksX2_fillsOne_0 5 rfl rfl)
theorem dX2_fillsOne_6 : decode cX2_fillsOne 6 = .ok (.invokevirtual 60, 3) := dk_182 0 60 (dk_at dksX2_fillsOne_0 6 rfl rfl)
theorem dX2_fillsOne_9 : decode cX2_fillsOne 9 = .ok (.if_icmp .ne 16, 3) := dk_160 0 16 (dk_at dksX2_fillsOne_0 9 rfl rfl)
theorem dX2_fillsOne_12 : decode cX2_fillsOne 12 = .ok (.aload_n 0, 1) := dk_42 (dk_at dksX2_fillsOne_0 12 rfl rfl)
theorem dX2_fillsOne_13 : decode cX2_fillsOne 13 = .ok (.getfield 7, 3) := dk_180 0 7 (dk_at dksX2_fillsOne_0 13 rfl rfl)
theorem dX2_fillsOne_16 : decode cX2_fillsOne 16 = .ok (.bipush 15, 2) := dk_16 15 (dk_at dksX2_fillsOne_0 16 rfl rfl)
theorem dX2_fillsOne_18 : decode cX2_fillsOne 18 = .ok (.dup2, 1) := dk_92 (dk_at dksX2_fillsOne_0 18 rfl rfl)
theorem dX2_fillsOne_19 : decode cX2_fillsOne 19 = .ok (.iaload, 1) := dk_46 (dk_at dksX2_fillsOne_0 19 rfl rfl)
theorem dX2_fillsOne_20 : decode cX2_fillsOne 20 = .ok (.iconst 1, 1) := dk_4 (dk_at dksX2_fillsOne_0 20 rfl rfl)
theorem dX2_fillsOne_21 : decode cX2_fillsOne 21 = .ok (.iadd, 1) := dk_96 (dk_at dksX2_fillsOne_0 21 rfl rfl)
theorem dX2_fillsOne_22 : decode cX2_fillsOne 22 = .ok (.iastore, 1) := dk_79 (dk_at dksX2_fillsOne_0 22 rfl rfl)
theorem dX2_fillsOne_23 : decode cX2_fillsOne 23 = .ok (.iconst 0, 1) := dk_3 (dk_at dksX2_fillsOne_0 23 rfl rfl)
theorem dX2_fillsOne_24 : decode cX2_fillsOne 24 = .ok (.ireturn, 1) := dk_172 (dk_at dksX2_fillsOne_1 0 rfl rfl)
theorem dX2_fillsOne_25 : decode cX2_fillsOne 25 = .ok (.aload_n 0, 1) := dk_42 (dk_at dksX2_fillsOne_1 1 rfl rfl)
theorem dX2_fillsOne_26 : decode cX2_fillsOne 26 = .ok (.getfield 7, 3) := dk_180 0 7 (dk_at dksX2_fillsOne_1 2 rfl rfl)
theorem dX2_fillsOne_29 : decode cX2_fillsOne 29 = .ok (.bipush 22, 2) := dk_16 22 (dk_at dksX2_fillsOne_1 5 rfl rfl)
theorem dX2_fillsOne_31 : decode cX2_fillsOne 31 = .ok (.iload_n 1, 1) := dk_27 (dk_at dksX2_fillsOne_1 7 rfl rfl)
theorem dX2_fillsOne_32 : decode cX2_fillsOne 32 = .ok (.iadd, 1) := dk_96 (dk_at dksX2_fillsOne_1 8 rfl rfl)
theorem dX2_fillsOne_33 : decode cX2_fillsOne 33 = .ok (.dup2, 1) := dk_92 (dk_at dksX2_fillsOne_1 9 rfl rfl)
theorem dX2_fillsOne_34 : decode cX2_fillsOne 34 = .ok (.iaload, 1) := dk_46 (dk_at dksX2_fillsOne_1 10 rfl rfl)
theorem dX2_fillsOne_35 : decode cX2_fillsOne 35 = .ok (.iconst 1, 1) := dk_4 (dk_at dksX2_fillsOne_1 11 rfl rfl)
theorem dX2_fillsOne_36 : decode cX2_fillsOne 36 = .ok (.iadd, 1) := dk_96 (dk_at dksX2_fillsOne_1 12 rfl rfl)
theorem dX2_fillsOne_37 : decode cX2_fillsOne 37 = .ok (.iastore, 1) := dk_79 (dk_at dksX2_fillsOne_1 13 rfl rfl)
theorem dX2_fillsOne_38 : decode cX2_fillsOne 38 = .ok (.aload_n 0, 1) := dk_42 (dk_at dksX2_fillsOne_1 14 rfl rfl)
theorem dX2_fillsOne_39 : decode cX2_fillsOne 39 = .ok (.getfield 7, 3) := dk_180 0 7 (dk_at dksX2_fillsOne_1 15 rfl rfl)
theorem dX2_fillsOne_42 : decode cX2_fillsOne 42 = .ok (.bipush 14, 2) := dk_16 14 (dk_at dksX2_fillsOne_1 18 rfl rfl)
theorem dX2_fillsOne_44 : decode cX2_fillsOne 44 = .ok (.dup2, 1) := dk_92 (dk_at dksX2_fillsOne_1 20 rfl rfl)
theorem dX2_fillsOne_45 : decode cX2_fillsOne 45 = .ok (.iaload, 1) := dk_46 (dk_at dksX2_fillsOne_1 21 rfl rfl)
theorem dX2_fillsOne_46 : decode cX2_fillsOne 46 = .ok (.iconst 1, 1) := dk_4 (dk_at dksX2_fillsOne_1 22 rfl rfl)
theorem dX2_fillsOne_47 : decode cX2_fillsOne 47 = .ok (.iadd, 1) := dk_96 (dk_at dksX2_fillsOne_1 23 rfl rfl)
theorem dX2_fillsOne_48 : decode cX2_fillsOne 48 = .ok (.iastore, 1) := dk_79 (dk_at dksX2_fillsOne_2 0 rfl rfl)
theorem dX2_fillsOne_49 : decode cX2_fillsOne 49 = .ok (.aload_n 0, 1) := dk_42 (dk_at dksX2_fillsOne_2 1 rfl rfl)
theorem dX2_fillsOne_50 : decode cX2_fillsOne 50 = .ok (.getfield 7, 3) := dk_180 0 7 (dk_at dksX2_fillsOne_2 2 rfl rfl)
theorem dX2_fillsOne_53 : decode cX2_fillsOne 53 = .ok (.bipush 9, 2) := dk_16 9 (dk_at dksX2_fillsOne_2 5 rfl rfl)
theorem dX2_fillsOne_55 : decode cX2_fillsOne 55 = .ok (.bipush 99, 2) := dk_16 99 (dk_at dksX2_fillsOne_2 7 rfl rfl)
theorem dX2_fillsOne_57 : decode cX2_fillsOne 57 = .ok (.aload_n 0, 1) := dk_42 (dk_at dksX2_fillsOne_2 9 rfl rfl)
theorem dX2_fillsOne_58 : decode cX2_fillsOne 58 = .ok (.getfield 7, 3) := dk_180 0 7 (dk_at dksX2_fillsOne_2 10 rfl rfl)
theorem dX2_fillsOne_61 : decode cX2_fillsOne 61 = .ok (.bipush 9, 2) := dk_16 9 (dk_at dksX2_fillsOne_2 13 rfl rfl)
theorem dX2_fillsOne_63 : decode cX2_fillsOne 63 = .ok (.iaload, 1) := dk_46 (dk_at dksX2_fillsOne_2 15 rfl rfl)
theorem dX2_fillsOne_64 : decode cX2_fillsOne 64 = .ok (.iconst 1, 1) := dk_4 (dk_at dksX2_fillsOne_2 16 rfl rfl)
theorem dX2_fillsOne_65 : decode cX2_fillsOne 65 = .ok (.iadd, 1) := dk_96 (dk_at dksX2_fillsOne_2 17 rfl rfl)
theorem dX2_fillsOne_66 : decode cX2_fillsOne 66 = .ok (.invokestatic 63, 3) := dk_184 0 63 (dk_at dksX2_fillsOne_2 18 rfl rfl)
theorem dX2_fillsOne_69 : decode cX2_fillsOne 69 = .ok (.iastore, 1) := dk_79 (dk_at dksX2_fillsOne_2 21 rfl rfl)
theorem dX2_fillsOne_70 : decode cX2_fillsOne 70 = .ok (.aload_n 0, 1) := dk_42 (dk_at dksX2_fillsOne_2 22 rfl rfl)
theorem dX2_fillsOne_71 : decode cX2_fillsOne 71 = .ok (.invokevirtual 69, 3) := dk_182 0 69 (dk_at dksX2_fillsOne_3 0 rfl rfl)
theorem dX2_fillsOne_74 : decode cX2_fillsOne 74 = .ok (.istore_n 2, 1) := dk_61 (dk_at dksX2_fillsOne_3 3 rfl rfl)
theorem dX2_fillsOne_75 : decode cX2_fillsOne 75 = .ok (.iconst 1, 1) := dk_4 (dk_at dksX2_fillsOne_3 4 rfl rfl)
theorem dX2_fillsOne_76 : decode cX2_fillsOne 76 = .ok (.ireturn, 1) := dk_172 (dk_at dksX2_fillsOne_3 5 rfl rfl)
abbrev cX2_flag : ByteArray := prog_10_method_4_code
def yX2_flag : MethodName := ⟨RX2, "flag", "(Z)I"⟩
def dkwX2_flag_0 : List UInt8 := [26, 153, 0, 7, 4, 167, 0, 4, 3, 172]
abbrev dktX2_flag_0 : List UInt8 := dkwX2_flag_0 ++ []
theorem dksX2_flag_0 : cX2_flag.data.toList.drop 0 = dktX2_flag_0 := by decide +kernel
theorem dX2_flag_0 : decode cX2_flag 0 = .ok (.iload_n 0, 1) := dk_26 (dk_at dksX2_flag_0 0 rfl rfl)
theorem dX2_flag_1 : decode cX2_flag 1 = .ok (.ifCond .eq 7, 3) := dk_153 0 7 (dk_at dksX2_flag_0 1 rfl rfl)
theorem dX2_flag_4 : decode cX2_flag 4 = .ok (.iconst 1, 1) := dk_4 (dk_at dksX2_flag_0 4 rfl rfl)
theorem dX2_flag_5 : decode cX2_flag 5 = .ok (.goto 4, 3) := dk_167 0 4 (dk_at dksX2_flag_0 5 rfl rfl)
theorem dX2_flag_8 : decode cX2_flag 8 = .ok (.iconst 0, 1) := dk_3 (dk_at dksX2_flag_0 8 rfl rfl)
theorem dX2_flag_9 : decode cX2_flag 9 = .ok (.ireturn, 1) := dk_172 (dk_at dksX2_flag_0 9 rfl rfl)
abbrev cX2_drawLine : ByteArray := prog_10_method_55_code
def yX2_drawLine : MethodName := ⟨RX2, "drawLine", "()V"⟩
def dkwX2_drawLine_2 : List UInt8 := [177]
abbrev dktX2_drawLine_2 : List UInt8 := dkwX2_drawLine_2 ++ []
def dkwX2_drawLine_1 : List UInt8 := [182, 0, 177, 42, 4, 16, 99, 182, 0, 186, 60, 42, 180, 0, 149, 154, 0, 9, 42, 27, 182, 0, 196, 61]
abbrev dktX2_drawLine_1 : List UInt8 := dkwX2_drawLine_1 ++ dktX2_drawLine_2
def dkwX2_drawLine_0 : List UInt8 := [42, 42, 42, 180, 0, 7, 6, 46, 182, 0, 49, 154, 0, 7, 4, 167, 0, 4, 3, 7, 182, 0, 189, 42]
abbrev dktX2_drawLine_0 : List UInt8 := dkwX2_drawLine_0 ++ dktX2_drawLine_1
theorem dksX2_drawLine_0 : cX2_drawLine.data.toList.drop 0 = dktX2_drawLine_0 := by decide +kernel
theorem dksX2_drawLine_1 : cX2_drawLine.data.toList.drop 24 = dktX2_drawLine_1 := dk_seg dksX2_drawLine_0 24 rfl rfl
theorem dksX2_drawLine_2 : cX2_drawLine.data.toList.drop 48 = dktX2_drawLine_2 := dk_seg dksX2_drawLine_1 24 rfl rfl
theorem dX2_drawLine_0 : decode cX2_drawLine 0 = .ok (.aload_n 0, 1) := dk_42 (dk_at dksX2_drawLine_0 0 rfl rfl)
theorem dX2_drawLine_1 : decode cX2_drawLine 1 = .ok (.aload_n 0, 1) := dk_42 (dk_at dksX2_drawLine_0 1 rfl rfl)
theorem dX2_drawLine_2 : decode cX2_drawLine 2 = .ok (.aload_n 0, 1) := dk_42 (dk_at dksX2_drawLine_0 2 rfl rfl)
theorem dX2_drawLine_3 : decode cX2_drawLine 3 = .ok (.getfield 7, 3) := dk_180 0 7 (dk_at dksX2_drawLine_0 3 rfl rfl)
theorem dX2_drawLine_6 : decode cX2_drawLine 6 = .ok (.iconst 3, 1) := dk_6 (dk_at dksX2_drawLine_0 6 rfl rfl)
theorem dX2_drawLine_7 : decode cX2_drawLine 7 = .ok (.iaload, 1) := dk_46 (dk_at dksX2_drawLine_0 7 rfl rfl)
theorem dX2_drawLine_8 : decode cX2_drawLine 8 = .ok (.invokevirtual 49, 3) := dk_182 0 49 (dk_at dksX2_drawLine_0 8 rfl rfl)
theorem dX2_drawLine_11 : decode cX2_drawLine 11 = .ok (.ifCond .ne 7, 3) := dk_154 0 7 (dk_at dksX2_drawLine_0 11 rfl rfl)
theorem dX2_drawLine_14 : decode cX2_drawLine 14 = .ok (.iconst 1, 1) := dk_4 (dk_at dksX2_drawLine_0 14 rfl rfl)
theorem dX2_drawLine_15 : decode cX2_drawLine 15 = .ok (.goto 4, 3) := dk_167 0 4 (dk_at dksX2_drawLine_0 15 rfl rfl)
theorem dX2_drawLine_18 : decode cX2_drawLine 18 = .ok (.iconst 0, 1) := dk_3 (dk_at dksX2_drawLine_0 18 rfl rfl)
theorem dX2_drawLine_19 : decode cX2_drawLine 19 = .ok (.iconst 4, 1) := dk_7 (dk_at dksX2_drawLine_0 19 rfl rfl)
theorem dX2_drawLine_20 : decode cX2_drawLine 20 = .ok (.invokevirtual 189, 3) := dk_182 0 189 (dk_at dksX2_drawLine_0 20 rfl rfl)
theorem dX2_drawLine_23 : decode cX2_drawLine 23 = .ok (.aload_n 0, 1) := dk_42 (dk_at dksX2_drawLine_0 23 rfl rfl)
theorem dX2_drawLine_24 : decode cX2_drawLine 24 = .ok (.invokevirtual 177, 3) := dk_182 0 177 (dk_at dksX2_drawLine_1 0 rfl rfl)
theorem dX2_drawLine_27 : decode cX2_drawLine 27 = .ok (.aload_n 0, 1) := dk_42 (dk_at dksX2_drawLine_1 3 rfl rfl)
theorem dX2_drawLine_28 : decode cX2_drawLine 28 = .ok (.iconst 1, 1) := dk_4 (dk_at dksX2_drawLine_1 4 rfl rfl)
theorem dX2_drawLine_29 : decode cX2_drawLine 29 = .ok (.bipush 99, 2) := dk_16 99 (dk_at dksX2_drawLine_1 5 rfl rfl)
theorem dX2_drawLine_31 : decode cX2_drawLine 31 = .ok (.invokevirtual 186, 3) := dk_182 0 186 (dk_at dksX2_drawLine_1 7 rfl rfl)
theorem dX2_drawLine_34 : decode cX2_drawLine 34 = .ok (.istore_n 1, 1) := dk_60 (dk_at dksX2_drawLine_1 10 rfl rfl)
theorem dX2_drawLine_35 : decode cX2_drawLine 35 = .ok (.aload_n 0, 1) := dk_42 (dk_at dksX2_drawLine_1 11 rfl rfl)
theorem dX2_drawLine_36 : decode cX2_drawLine 36 = .ok (.getfield 149, 3) := dk_180 0 149 (dk_at dksX2_drawLine_1 12 rfl rfl)
theorem dX2_drawLine_39 : decode cX2_drawLine 39 = .ok (.ifCond .ne 9, 3) := dk_154 0 9 (dk_at dksX2_drawLine_1 15 rfl rfl)
theorem dX2_drawLine_42 : decode cX2_drawLine 42 = .ok (.aload_n 0, 1) := dk_42 (dk_at dksX2_drawLine_1 18 rfl rfl)
theorem dX2_drawLine_43 : decode cX2_drawLine 43 = .ok (.iload_n 1, 1) := dk_27 (dk_at dksX2_drawLine_1 19 rfl rfl)
theorem dX2_drawLine_44 : decode cX2_drawLine 44 = .ok (.invokevirtual 196, 3) := dk_182 0 196 (dk_at dksX2_drawLine_1 20 rfl rfl)
theorem dX2_drawLine_47 : decode cX2_drawLine 47 = .ok (.istore_n 2, 1) := dk_61 (dk_at dksX2_drawLine_1 23 rfl rfl)
theorem dX2_drawLine_48 : decode cX2_drawLine 48 = .ok (.return_, 1) := dk_177 (dk_at dksX2_drawLine_2 0 rfl rfl)
abbrev cX2_draws : ByteArray := prog_10_method_20_code
def yX2_draws : MethodName := ⟨RX2, "draws", "(I)I"⟩
def dkwX2_draws_1 : List UInt8 := [167, 255, 238, 28, 172]
abbrev dktX2_draws_1 : List UInt8 := dkwX2_draws_1 ++ []
def dkwX2_draws_0 : List UInt8 := [3, 61, 3, 62, 29, 27, 162, 0, 19, 28, 42, 182, 0, 79, 184, 0, 75, 96, 61, 132, 3, 1]
abbrev dktX2_draws_0 : List UInt8 := dkwX2_draws_0 ++ dktX2_draws_1
theorem dksX2_draws_0 : cX2_draws.data.toList.drop 0 = dktX2_draws_0 := by decide +kernel
theorem dksX2_draws_1 : cX2_draws.data.toList.drop 22 = dktX2_draws_1 := dk_seg dksX2_draws_0 22 rfl rfl
theorem dX2_draws_0 : decode cX2_draws 0 = .ok (.iconst 0, 1) := dk_3 (dk_at dksX2_draws_0 0 rfl rfl)
theorem dX2_draws_1 : decode cX2_draws 1 = .ok (.istore_n 2, 1) := dk_61 (dk_at dksX2_draws_0 1 rfl rfl)
theorem dX2_draws_2 : decode cX2_draws 2 = .ok (.iconst 0, 1) := dk_3 (dk_at dksX2_draws_0 2 rfl rfl)
theorem dX2_draws_3 : decode cX2_draws 3 = .ok (.istore_n 3, 1) := dk_62 (dk_at dksX2_draws_0 3 rfl rfl)
theorem dX2_draws_4 : decode cX2_draws 4 = .ok (.iload_n 3, 1) := dk_29 (dk_at dksX2_draws_0 4 rfl rfl)
theorem dX2_draws_5 : decode cX2_draws 5 = .ok (.iload_n 1, 1) := dk_27 (dk_at dksX2_draws_0 5 rfl rfl)
theorem dX2_draws_6 : decode cX2_draws 6 = .ok (.if_icmp .ge 19, 3) := dk_162 0 19 (dk_at dksX2_draws_0 6 rfl rfl)
theorem dX2_draws_9 : decode cX2_draws 9 = .ok (.iload_n 2, 1) := dk_28 (dk_at dksX2_draws_0 9 rfl rfl)
theorem dX2_draws_10 : decode cX2_draws 10 = .ok (.aload_n 0, 1) := dk_42 (dk_at dksX2_draws_0 10 rfl rfl)
theorem dX2_draws_11 : decode cX2_draws 11 = .ok (.invokevirtual 79, 3) := dk_182 0 79 (dk_at dksX2_draws_0 11 rfl rfl)
theorem dX2_draws_14 : decode cX2_draws 14 = .ok (.invokestatic 75, 3) := dk_184 0 75 (dk_at dksX2_draws_0 14 rfl rfl)
theorem dX2_draws_17 : decode cX2_draws 17 = .ok (.iadd, 1) := dk_96 (dk_at dksX2_draws_0 17 rfl rfl)
theorem dX2_draws_18 : decode cX2_draws 18 = .ok (.istore_n 2, 1) := dk_61 (dk_at dksX2_draws_0 18 rfl rfl)
theorem dX2_draws_19 : decode cX2_draws 19 = .ok (.iinc 3 1, 3) := dk_132 3 1 (dk_at dksX2_draws_0 19 rfl rfl)
theorem dX2_draws_22 : decode cX2_draws 22 = .ok (.goto (-18), 3) := dk_167 255 238 (dk_at dksX2_draws_1 0 rfl rfl)
theorem dX2_draws_25 : decode cX2_draws 25 = .ok (.iload_n 2, 1) := dk_28 (dk_at dksX2_draws_1 3 rfl rfl)
theorem dX2_draws_26 : decode cX2_draws 26 = .ok (.ireturn, 1) := dk_172 (dk_at dksX2_draws_1 4 rfl rfl)
abbrev cX2_drawsOne : ByteArray := prog_10_method_19_code
def yX2_drawsOne : MethodName := ⟨RX2, "drawsOne", "()Z"⟩
def dkwX2_drawsOne_2 : List UInt8 := [16, 16, 92, 46, 4, 96, 79, 42, 182, 0, 69, 60, 4, 172]
abbrev dktX2_drawsOne_2 : List UInt8 := dkwX2_drawsOne_2 ++ []
def dkwX2_drawsOne_1 : List UInt8 := [3, 172, 42, 180, 0, 7, 16, 22, 42, 180, 0, 7, 6, 46, 96, 92, 46, 4, 100, 79, 42, 180, 0, 7]
abbrev dktX2_drawsOne_1 : List UInt8 := dkwX2_drawsOne_1 ++ dktX2_drawsOne_2
def dkwX2_drawsOne_0 : List UInt8 := [42, 42, 180, 0, 7, 6, 46, 182, 0, 49, 154, 0, 16, 42, 180, 0, 7, 16, 17, 92, 46, 4, 96, 79]
abbrev dktX2_drawsOne_0 : List UInt8 := dkwX2_drawsOne_0 ++ dktX2_drawsOne_1
theorem dksX2_drawsOne_0 : cX2_drawsOne.data.toList.drop 0 = dktX2_drawsOne_0 := by decide +kernel
theorem dksX2_drawsOne_1 : cX2_drawsOne.data.toList.drop 24 = dktX2_drawsOne_1 := dk_seg dksX2_drawsOne_0 24 rfl rfl
theorem dksX2_drawsOne_2 : cX2_drawsOne.data.toList.drop 48 = dktX2_drawsOne_2 := dk_seg dksX2_drawsOne_1 24 rfl rfl
theorem dX2_drawsOne_0 : decode cX2_drawsOne 0 = .ok (.aload_n 0, 1) := dk_42 (dk_at dksX2_drawsOne_0 0 rfl rfl)
theorem dX2_drawsOne_1 : decode cX2_drawsOne 1 = .ok (.aload_n 0, 1) := dk_42 (dk_at dksX2_drawsOne_0 1 rfl rfl)
theorem dX2_drawsOne_2 : decode cX2_drawsOne 2 = .ok (.getfield 7, 3) := dk_180 0 7 (dk_at dksX2_drawsOne_0 2 rfl rfl)
theorem dX2_drawsOne_5 : decode cX2_drawsOne 5 = .ok (.iconst 3, 1) := dk_6 (dk_at dksX2_drawsOne_0 5 rfl rfl)
theorem dX2_drawsOne_6 : decode cX2_drawsOne 6 = .ok (.iaload, 1) := dk_46 (dk_at dksX2_drawsOne_0 6 rfl rfl)
theorem dX2_drawsOne_7 : decode cX2_drawsOne 7 = .ok (.invokevirtual 49, 3) := dk_182 0 49 (dk_at dksX2_drawsOne_0 7 rfl rfl)
theorem dX2_drawsOne_10 : decode cX2_drawsOne 10 = .ok (.ifCond .ne 16, 3) := dk_154 0 16 (dk_at dksX2_drawsOne_0 10 rfl rfl)
theorem dX2_drawsOne_13 : decode cX2_drawsOne 13 = .ok (.aload_n 0, 1) := dk_42 (dk_at dksX2_drawsOne_0 13 rfl rfl)
theorem dX2_drawsOne_14 : decode cX2_drawsOne 14 = .ok (.getfield 7, 3) := dk_180 0 7 (dk_at dksX2_drawsOne_0 14 rfl rfl)
theorem dX2_drawsOne_17 : decode cX2_drawsOne 17 = .ok (.bipush 17, 2) := dk_16 17 (dk_at dksX2_drawsOne_0 17 rfl rfl)
theorem dX2_drawsOne_19 : decode cX2_drawsOne 19 = .ok (.dup2, 1) := dk_92 (dk_at dksX2_drawsOne_0 19 rfl rfl)
theorem dX2_drawsOne_20 : decode cX2_drawsOne 20 = .ok (.iaload, 1) := dk_46 (dk_at dksX2_drawsOne_0 20 rfl rfl)
theorem dX2_drawsOne_21 : decode cX2_drawsOne 21 = .ok (.iconst 1, 1) := dk_4 (dk_at dksX2_drawsOne_0 21 rfl rfl)
theorem dX2_drawsOne_22 : decode cX2_drawsOne 22 = .ok (.iadd, 1) := dk_96 (dk_at dksX2_drawsOne_0 22 rfl rfl)
theorem dX2_drawsOne_23 : decode cX2_drawsOne 23 = .ok (.iastore, 1) := dk_79 (dk_at dksX2_drawsOne_0 23 rfl rfl)
theorem dX2_drawsOne_24 : decode cX2_drawsOne 24 = .ok (.iconst 0, 1) := dk_3 (dk_at dksX2_drawsOne_1 0 rfl rfl)
theorem dX2_drawsOne_25 : decode cX2_drawsOne 25 = .ok (.ireturn, 1) := dk_172 (dk_at dksX2_drawsOne_1 1 rfl rfl)
theorem dX2_drawsOne_26 : decode cX2_drawsOne 26 = .ok (.aload_n 0, 1) := dk_42 (dk_at dksX2_drawsOne_1 2 rfl rfl)
theorem dX2_drawsOne_27 : decode cX2_drawsOne 27 = .ok (.getfield 7, 3) := dk_180 0 7 (dk_at dksX2_drawsOne_1 3 rfl rfl)
theorem dX2_drawsOne_30 : decode cX2_drawsOne 30 = .ok (.bipush 22, 2) := dk_16 22 (dk_at dksX2_drawsOne_1 6 rfl rfl)
theorem dX2_drawsOne_32 : decode cX2_drawsOne 32 = .ok (.aload_n 0, 1) := dk_42 (dk_at dksX2_drawsOne_1 8 rfl rfl)
theorem dX2_drawsOne_33 : decode cX2_drawsOne 33 = .ok (.getfield 7, 3) := dk_180 0 7 (dk_at dksX2_drawsOne_1 9 rfl rfl)
theorem dX2_drawsOne_36 : decode cX2_drawsOne 36 = .ok (.iconst 3, 1) := dk_6 (dk_at dksX2_drawsOne_1 12 rfl rfl)
theorem dX2_drawsOne_37 : decode cX2_drawsOne 37 = .ok (.iaload, 1) := dk_46 (dk_at dksX2_drawsOne_1 13 rfl rfl)
theorem dX2_drawsOne_38 : decode cX2_drawsOne 38 = .ok (.iadd, 1) := dk_96 (dk_at dksX2_drawsOne_1 14 rfl rfl)
theorem dX2_drawsOne_39 : decode cX2_drawsOne 39 = .ok (.dup2, 1) := dk_92 (dk_at dksX2_drawsOne_1 15 rfl rfl)
theorem dX2_drawsOne_40 : decode cX2_drawsOne 40 = .ok (.iaload, 1) := dk_46 (dk_at dksX2_drawsOne_1 16 rfl rfl)
theorem dX2_drawsOne_41 : decode cX2_drawsOne 41 = .ok (.iconst 1, 1) := dk_4 (dk_at dksX2_drawsOne_1 17 rfl rfl)
theorem dX2_drawsOne_42 : decode cX2_drawsOne 42 = .ok (.isub, 1) := dk_100 (dk_at dksX2_drawsOne_1 18 rfl rfl)
theorem dX2_drawsOne_43 : decode cX2_drawsOne 43 = .ok (.iastore, 1) := dk_79 (dk_at dksX2_drawsOne_1 19 rfl rfl)
theorem dX2_drawsOne_44 : decode cX2_drawsOne 44 = .ok (.aload_n 0, 1) := dk_42 (dk_at dksX2_drawsOne_1 20 rfl rfl)
theorem dX2_drawsOne_45 : decode cX2_drawsOne 45 = .ok (.getfield 7, 3) := dk_180 0 7 (dk_at dksX2_drawsOne_1 21 rfl rfl)
theorem dX2_drawsOne_48 : decode cX2_drawsOne 48 = .ok (.bipush 16, 2) := dk_16 16 (dk_at dksX2_drawsOne_2 0 rfl rfl)
theorem dX2_drawsOne_50 : decode cX2_drawsOne 50 = .ok (.dup2, 1) := dk_92 (dk_at dksX2_drawsOne_2 2 rfl rfl)
theorem dX2_drawsOne_51 : decode cX2_drawsOne 51 = .ok (.iaload, 1) := dk_46 (dk_at dksX2_drawsOne_2 3 rfl rfl)
theorem dX2_drawsOne_52 : decode cX2_drawsOne 52 = .ok (.iconst 1, 1) := dk_4 (dk_at dksX2_drawsOne_2 4 rfl rfl)
theorem dX2_drawsOne_53 : decode cX2_drawsOne 53 = .ok (.iadd, 1) := dk_96 (dk_at dksX2_drawsOne_2 5 rfl rfl)
theorem dX2_drawsOne_54 : decode cX2_drawsOne 54 = .ok (.iastore, 1) := dk_79 (dk_at dksX2_drawsOne_2 6 rfl rfl)
theorem dX2_drawsOne_55 : decode cX2_drawsOne 55 = .ok (.aload_n 0, 1) := dk_42 (dk_at dksX2_drawsOne_2 7 rfl rfl)
theorem dX2_drawsOne_56 : decode cX2_drawsOne 56 = .ok (.invokevirtual 69, 3) := dk_182 0 69 (dk_at dksX2_drawsOne_2 8 rfl rfl)
theorem dX2_drawsOne_59 : decode cX2_drawsOne 59 = .ok (.istore_n 1, 1) := dk_60 (dk_at dksX2_drawsOne_2 11 rfl rfl)
theorem dX2_drawsOne_60 : decode cX2_drawsOne 60 = .ok (.iconst 1, 1) := dk_4 (dk_at dksX2_drawsOne_2 12 rfl rfl)
theorem dX2_drawsOne_61 : decode cX2_drawsOne 61 = .ok (.ireturn, 1) := dk_172 (dk_at dksX2_drawsOne_2 13 rfl rfl)
abbrev cX2_pings : ByteArray := prog_10_method_34_code
def yX2_pings : MethodName := ⟨RX2, "pings", "()V"⟩
def dkwX2_pings_7 : List UInt8 := [184, 0, 116, 79, 177]
abbrev dktX2_pings_7 : List UInt8 := dkwX2_pings_7 ++ []
def dkwX2_pings_6 : List UInt8 := [42, 180, 0, 7, 16, 11, 3, 79, 42, 180, 0, 7, 16, 9, 3, 42, 180, 0, 7, 16, 9, 46, 4, 100]
abbrev dktX2_pings_6 : List UInt8 := dkwX2_pings_6 ++ dktX2_pings_7
def dkwX2_pings_5 : List UInt8 := [180, 0, 7, 16, 11, 46, 42, 180, 0, 7, 16, 8, 46, 161, 0, 19, 42, 180, 0, 7, 16, 10, 28, 79]
abbrev dktX2_pings_5 : List UInt8 := dkwX2_pings_5 ++ dktX2_pings_6
def dkwX2_pings_4 : List UInt8 := [46, 4, 96, 79, 167, 0, 17, 42, 180, 0, 7, 16, 11, 42, 180, 0, 7, 16, 8, 46, 79, 42]
abbrev dktX2_pings_4 : List UInt8 := dkwX2_pings_4 ++ dktX2_pings_5
def dkwX2_pings_3 : List UInt8 := [16, 7, 46, 164, 0, 28, 42, 180, 0, 7, 16, 11, 92, 46, 4, 96, 79, 42, 180, 0, 7, 16, 20, 92]
abbrev dktX2_pings_3 : List UInt8 := dkwX2_pings_3 ++ dktX2_pings_4
def dkwX2_pings_2 : List UInt8 := [16, 10, 46, 2, 159, 0, 50, 42, 180, 0, 7, 16, 10, 46, 28, 100, 184, 0, 113, 42, 180, 0, 7]
abbrev dktX2_pings_2 : List UInt8 := dkwX2_pings_2 ++ dktX2_pings_3
def dkwX2_pings_1 : List UInt8 := [180, 0, 7, 16, 13, 92, 46, 4, 96, 79, 167, 0, 115, 42, 182, 0, 60, 27, 100, 61, 42, 180, 0, 7]
abbrev dktX2_pings_1 : List UInt8 := dkwX2_pings_1 ++ dktX2_pings_2
def dkwX2_pings_0 : List UInt8 := [42, 182, 0, 110, 60, 42, 180, 0, 7, 16, 12, 92, 46, 4, 96, 79, 27, 2, 160, 0, 17, 42]
abbrev dktX2_pings_0 : List UInt8 := dkwX2_pings_0 ++ dktX2_pings_1
theorem dksX2_pings_0 : cX2_pings.data.toList.drop 0 = dktX2_pings_0 := by decide +kernel
theorem dksX2_pings_1 : cX2_pings.data.toList.drop 22 = dktX2_pings_1 := dk_seg dksX2_pings_0 22 rfl rfl
theorem dksX2_pings_2 : cX2_pings.data.toList.drop 46 = dktX2_pings_2 := dk_seg dksX2_pings_1 24 rfl rfl
theorem dksX2_pings_3 : cX2_pings.data.toList.drop 69 = dktX2_pings_3 := dk_seg dksX2_pings_2 23 rfl rfl
theorem dksX2_pings_4 : cX2_pings.data.toList.drop 93 = dktX2_pings_4 := dk_seg dksX2_pings_3 24 rfl rfl
theorem dksX2_pings_5 : cX2_pings.data.toList.drop 115 = dktX2_pings_5 := dk_seg dksX2_pings_4 22 rfl rfl
theorem dksX2_pings_6 : cX2_pings.data.toList.drop 139 = dktX2_pings_6 := dk_seg dksX2_pings_5 24 rfl rfl
theorem dksX2_pings_7 : cX2_pings.data.toList.drop 163 = dktX2_pings_7 := dk_seg dksX2_pings_6 24 rfl rfl
theorem dX2_pings_0 : decode cX2_pings 0 = .ok (.aload_n 0, 1) := dk_42 (dk_at dksX2_pings_0 0 rfl rfl)
theorem dX2_pings_1 : decode cX2_pings 1 = .ok (.invokevirtual 110, 3) := dk_182 0 110 (dk_at dksX2_pings_0 1 rfl rfl)
theorem dX2_pings_4 : decode cX2_pings 4 = .ok (.istore_n 1, 1) := dk_60 (dk_at dksX2_pings_0 4 rfl rfl)
theorem dX2_pings_5 : decode cX2_pings 5 = .ok (.aload_n 0, 1) := dk_42 (dk_at dksX2_pings_0 5 rfl rfl)
theorem dX2_pings_6 : decode cX2_pings 6 = .ok (.getfield 7, 3) := dk_180 0 7 (dk_at dksX2_pings_0 6 rfl rfl)
theorem dX2_pings_9 : decode cX2_pings 9 = .ok (.bipush 12, 2) := dk_16 12 (dk_at dksX2_pings_0 9 rfl rfl)
theorem dX2_pings_11 : decode cX2_pings 11 = .ok (.dup2, 1) := dk_92 (dk_at dksX2_pings_0 11 rfl rfl)
theorem dX2_pings_12 : decode cX2_pings 12 = .ok (.iaload, 1) := dk_46 (dk_at dksX2_pings_0 12 rfl rfl)
theorem dX2_pings_13 : decode cX2_pings 13 = .ok (.iconst 1, 1) := dk_4 (dk_at dksX2_pings_0 13 rfl rfl)
theorem dX2_pings_14 : decode cX2_pings 14 = .ok (.iadd, 1) := dk_96 (dk_at dksX2_pings_0 14 rfl rfl)
theorem dX2_pings_15 : decode cX2_pings 15 = .ok (.iastore, 1) := dk_79 (dk_at dksX2_pings_0 15 rfl rfl)
theorem dX2_pings_16 : decode cX2_pings 16 = .ok (.iload_n 1, 1) := dk_27 (dk_at dksX2_pings_0 16 rfl rfl)
theorem dX2_pings_17 : decode cX2_pings 17 = .ok (.iconst (-1), 1) := dk_2 (dk_at dksX2_pings_0 17 rfl rfl)
theorem dX2_pings_18 : decode cX2_pings 18 = .ok (.if_icmp .ne 17, 3) := dk_160 0 17 (dk_at dksX2_pings_0 18 rfl rfl)
theorem dX2_pings_21 : decode cX2_pings 21 = .ok (.aload_n 0, 1) := dk_42 (dk_at dksX2_pings_0 21 rfl rfl)
theorem dX2_pings_22 : decode cX2_pings 22 = .ok (.getfield 7, 3) := dk_180 0 7 (dk_at dksX2_pings_1 0 rfl rfl)
theorem dX2_pings_25 : decode cX2_pings 25 = .ok (.bipush 13, 2) := dk_16 13 (dk_at dksX2_pings_1 3 rfl rfl)
theorem dX2_pings_27 : decode cX2_pings 27 = .ok (.dup2, 1) := dk_92 (dk_at dksX2_pings_1 5 rfl rfl)
theorem dX2_pings_28 : decode cX2_pings 28 = .ok (.iaload, 1) := dk_46 (dk_at dksX2_pings_1 6 rfl rfl)
theorem dX2_pings_29 : decode cX2_pings 29 = .ok (.iconst 1, 1) := dk_4 (dk_at dksX2_pings_1 7 rfl rfl)
theorem dX2_pings_30 : decode cX2_pings 30 = .ok (.iadd, 1) := dk_96 (dk_at dksX2_pings_1 8 rfl rfl)
theorem dX2_pings_31 : decode cX2_pings 31 = .ok (.iastore, 1) := dk_79 (dk_at dksX2_pings_1 9 rfl rfl)
theorem dX2_pings_32 : decode cX2_pings 32 = .ok (.goto 115, 3) := dk_167 0 115 (dk_at dksX2_pings_1 10 rfl rfl)
theorem dX2_pings_35 : decode cX2_pings 35 = .ok (.aload_n 0, 1) := dk_42 (dk_at dksX2_pings_1 13 rfl rfl)
theorem dX2_pings_36 : decode cX2_pings 36 = .ok (.invokevirtual 60, 3) := dk_182 0 60 (dk_at dksX2_pings_1 14 rfl rfl)
theorem dX2_pings_39 : decode cX2_pings 39 = .ok (.iload_n 1, 1) := dk_27 (dk_at dksX2_pings_1 17 rfl rfl)
theorem dX2_pings_40 : decode cX2_pings 40 = .ok (.isub, 1) := dk_100 (dk_at dksX2_pings_1 18 rfl rfl)
theorem dX2_pings_41 : decode cX2_pings 41 = .ok (.istore_n 2, 1) := dk_61 (dk_at dksX2_pings_1 19 rfl rfl)
theorem dX2_pings_42 : decode cX2_pings 42 = .ok (.aload_n 0, 1) := dk_42 (dk_at dksX2_pings_1 20 rfl rfl)
theorem dX2_pings_43 : decode cX2_pings 43 = .ok (.getfield 7, 3) := dk_180 0 7 (dk_at dksX2_pings_1 21 rfl rfl)
theorem dX2_pings_46 : decode cX2_pings 46 = .ok (.bipush 10, 2) := dk_16 10 (dk_at dksX2_pings_2 0 rfl rfl)
theorem dX2_pings_48 : decode cX2_pings 48 = .ok (.iaload, 1) := dk_46 (dk_at dksX2_pings_2 2 rfl rfl)
theorem dX2_pings_49 : decode cX2_pings 49 = .ok (.iconst (-1), 1) := dk_2 (dk_at dksX2_pings_2 3 rfl rfl)
theorem dX2_pings_50 : decode cX2_pings 50 = .ok (.if_icmp .eq 50, 3) := dk_159 0 50 (dk_at dksX2_pings_2 4 rfl rfl)
theorem dX2_pings_53 : decode cX2_pings 53 = .ok (.aload_n 0, 1) := dk_42 (dk_at dksX2_pings_2 7 rfl rfl)
theorem dX2_pings_54 : decode cX2_pings 54 = .ok (.getfield 7, 3) := dk_180 0 7 (dk_at dksX2_pings_2 8 rfl rfl)
theorem dX2_pings_57 : decode cX2_pings 57 = .ok (.bipush 10, 2) := dk_16 10 (dk_at dksX2_pings_2 11 rfl rfl)
theorem dX2_pings_59 : decode cX2_pings 59 = .ok (.iaload, 1) := dk_46 (dk_at dksX2_pings_2 13 rfl rfl)
theorem dX2_pings_60 : decode cX2_pings 60 = .ok (.iload_n 2, 1) := dk_28 (dk_at dksX2_pings_2 14 rfl rfl)
theorem dX2_pings_61 : decode cX2_pings 61 = .ok (.isub, 1) := dk_100 (dk_at dksX2_pings_2 15 rfl rfl)
theorem dX2_pings_62 : decode cX2_pings 62 = .ok (.invokestatic 113, 3) := dk_184 0 113 (dk_at dksX2_pings_2 16 rfl rfl)
theorem dX2_pings_65 : decode cX2_pings 65 = .ok (.aload_n 0, 1) := dk_42 (dk_at dksX2_pings_2 19 rfl rfl)
theorem dX2_pings_66 : decode cX2_pings 66 = .ok (.getfield 7, 3) := dk_180 0 7 (dk_at dksX2_pings_2 20 rfl rfl)
theorem dX2_pings_69 : decode cX2_pings 69 = .ok (.bipush 7, 2) := dk_16 7 (dk_at dksX2_pings_3 0 rfl rfl)
theorem dX2_pings_71 : decode cX2_pings 71 = .ok (.iaload, 1) := dk_46 (dk_at dksX2_pings_3 2 rfl rfl)
theorem dX2_pings_72 : decode cX2_pings 72 = .ok (.if_icmp .le 28, 3) := dk_164 0 28 (dk_at dksX2_pings_3 3 rfl rfl)
theorem dX2_pings_75 : decode cX2_pings 75 = .ok (.aload_n 0, 1) := dk_42 (dk_at dksX2_pings_3 6 rfl rfl)
theorem dX2_pings_76 : decode cX2_pings 76 = .ok (.getfield 7, 3) := dk_180 0 7 (dk_at dksX2_pings_3 7 rfl rfl)
theorem dX2_pings_79 : decode cX2_pings 79 = .ok (.bipush 11, 2) := dk_16 11 (dk_at dksX2_pings_3 10 rfl rfl)
theorem dX2_pings_81 : decode cX2_pings 81 = .ok (.dup2, 1) := dk_92 (dk_at dksX2_pings_3 12 rfl rfl)
theorem dX2_pings_82 : decode cX2_pings 82 = .ok (.iaload, 1) := dk_46 (dk_at dksX2_pings_3 13 rfl rfl)
theorem dX2_pings_83 : decode cX2_pings 83 = .ok (.iconst 1, 1) := dk_4 (dk_at dksX2_pings_3 14 rfl rfl)
theorem dX2_pings_84 : decode cX2_pings 84 = .ok (.iadd, 1) := dk_96 (dk_at dksX2_pings_3 15 rfl rfl)
theorem dX2_pings_85 : decode cX2_pings 85 = .ok (.iastore, 1) := dk_79 (dk_at dksX2_pings_3 16 rfl rfl)
theorem dX2_pings_86 : decode cX2_pings 86 = .ok (.aload_n 0, 1) := dk_42 (dk_at dksX2_pings_3 17 rfl rfl)
theorem dX2_pings_87 : decode cX2_pings 87 = .ok (.getfield 7, 3) := dk_180 0 7 (dk_at dksX2_pings_3 18 rfl rfl)
theorem dX2_pings_90 : decode cX2_pings 90 = .ok (.bipush 20, 2) := dk_16 20 (dk_at dksX2_pings_3 21 rfl rfl)
theorem dX2_pings_92 : decode cX2_pings 92 = .ok (.dup2, 1) := dk_92 (dk_at dksX2_pings_3 23 rfl rfl)
theorem dX2_pings_93 : decode cX2_pings 93 = .ok (.iaload, 1) := dk_46 (dk_at dksX2_pings_4 0 rfl rfl)
theorem dX2_pings_94 : decode cX2_pings 94 = .ok (.iconst 1, 1) := dk_4 (dk_at dksX2_pings_4 1 rfl rfl)
theorem dX2_pings_95 : decode cX2_pings 95 = .ok (.iadd, 1) := dk_96 (dk_at dksX2_pings_4 2 rfl rfl)
theorem dX2_pings_96 : decode cX2_pings 96 = .ok (.iastore, 1) := dk_79 (dk_at dksX2_pings_4 3 rfl rfl)
theorem dX2_pings_97 : decode cX2_pings 97 = .ok (.goto 17, 3) := dk_167 0 17 (dk_at dksX2_pings_4 4 rfl rfl)
theorem dX2_pings_100 : decode cX2_pings 100 = .ok (.aload_n 0, 1) := dk_42 (dk_at dksX2_pings_4 7 rfl rfl)
theorem dX2_pings_101 : decode cX2_pings 101 = .ok (.getfield 7, 3) := dk_180 0 7 (dk_at dksX2_pings_4 8 rfl rfl)
theorem dX2_pings_104 : decode cX2_pings 104 = .ok (.bipush 11, 2) := dk_16 11 (dk_at dksX2_pings_4 11 rfl rfl)
theorem dX2_pings_106 : decode cX2_pings 106 = .ok (.aload_n 0, 1) := dk_42 (dk_at dksX2_pings_4 13 rfl rfl)
theorem dX2_pings_107 : decode cX2_pings 107 = .ok (.getfield 7, 3) := dk_180 0 7 (dk_at dksX2_pings_4 14 rfl rfl)
theorem dX2_pings_110 : decode cX2_pings 110 = .ok (.bipush 8, 2) := dk_16 8 (dk_at dksX2_pings_4 17 rfl rfl)
theorem dX2_pings_112 : decode cX2_pings 112 = .ok (.iaload, 1) := dk_46 (dk_at dksX2_pings_4 19 rfl rfl)
theorem dX2_pings_113 : decode cX2_pings 113 = .ok (.iastore, 1) := dk_79 (dk_at dksX2_pings_4 20 rfl rfl)
theorem dX2_pings_114 : decode cX2_pings 114 = .ok (.aload_n 0, 1) := dk_42 (dk_at dksX2_pings_4 21 rfl rfl)
theorem dX2_pings_115 : decode cX2_pings 115 = .ok (.getfield 7, 3) := dk_180 0 7 (dk_at dksX2_pings_5 0 rfl rfl)
theorem dX2_pings_118 : decode cX2_pings 118 = .ok (.bipush 11, 2) := dk_16 11 (dk_at dksX2_pings_5 3 rfl rfl)
theorem dX2_pings_120 : decode cX2_pings 120 = .ok (.iaload, 1) := dk_46 (dk_at dksX2_pings_5 5 rfl rfl)
theorem dX2_pings_121 : decode cX2_pings 121 = .ok (.aload_n 0, 1) := dk_42 (dk_at dksX2_pings_5 6 rfl rfl)
theorem dX2_pings_122 : decode cX2_pings 122 = .ok (.getfield 7, 3) := dk_180 0 7 (dk_at dksX2_pings_5 7 rfl rfl)
theorem dX2_pings_125 : decode cX2_pings 125 = .ok (.bipush 8, 2) := dk_16 8 (dk_at dksX2_pings_5 10 rfl rfl)
theorem dX2_pings_127 : decode cX2_pings 127 = .ok (.iaload, 1) := dk_46 (dk_at dksX2_pings_5 12 rfl rfl)
theorem dX2_pings_128 : decode cX2_pings 128 = .ok (.if_icmp .lt 19, 3) := dk_161 0 19 (dk_at dksX2_pings_5 13 rfl rfl)
theorem dX2_pings_131 : decode cX2_pings 131 = .ok (.aload_n 0, 1) := dk_42 (dk_at dksX2_pings_5 16 rfl rfl)
theorem dX2_pings_132 : decode cX2_pings 132 = .ok (.getfield 7, 3) := dk_180 0 7 (dk_at dksX2_pings_5 17 rfl rfl)
theorem dX2_pings_135 : decode cX2_pings 135 = .ok (.bipush 10, 2) := dk_16 10 (dk_at dksX2_pings_5 20 rfl rfl)
theorem dX2_pings_137 : decode cX2_pings 137 = .ok (.iload_n 2, 1) := dk_28 (dk_at dksX2_pings_5 22 rfl rfl)
theorem dX2_pings_138 : decode cX2_pings 138 = .ok (.iastore, 1) := dk_79 (dk_at dksX2_pings_5 23 rfl rfl)
theorem dX2_pings_139 : decode cX2_pings 139 = .ok (.aload_n 0, 1) := dk_42 (dk_at dksX2_pings_6 0 rfl rfl)
theorem dX2_pings_140 : decode cX2_pings 140 = .ok (.getfield 7, 3) := dk_180 0 7 (dk_at dksX2_pings_6 1 rfl rfl)
theorem dX2_pings_143 : decode cX2_pings 143 = .ok (.bipush 11, 2) := dk_16 11 (dk_at dksX2_pings_6 4 rfl rfl)
theorem dX2_pings_145 : decode cX2_pings 145 = .ok (.iconst 0, 1) := dk_3 (dk_at dksX2_pings_6 6 rfl rfl)
theorem dX2_pings_146 : decode cX2_pings 146 = .ok (.iastore, 1) := dk_79 (dk_at dksX2_pings_6 7 rfl rfl)
theorem dX2_pings_147 : decode cX2_pings 147 = .ok (.aload_n 0, 1) := dk_42 (dk_at dksX2_pings_6 8 rfl rfl)
theorem dX2_pings_148 : decode cX2_pings 148 = .ok (.getfield 7, 3) := dk_180 0 7 (dk_at dksX2_pings_6 9 rfl rfl)
theorem dX2_pings_151 : decode cX2_pings 151 = .ok (.bipush 9, 2) := dk_16 9 (dk_at dksX2_pings_6 12 rfl rfl)
theorem dX2_pings_153 : decode cX2_pings 153 = .ok (.iconst 0, 1) := dk_3 (dk_at dksX2_pings_6 14 rfl rfl)
theorem dX2_pings_154 : decode cX2_pings 154 = .ok (.aload_n 0, 1) := dk_42 (dk_at dksX2_pings_6 15 rfl rfl)
theorem dX2_pings_155 : decode cX2_pings 155 = .ok (.getfield 7, 3) := dk_180 0 7 (dk_at dksX2_pings_6 16 rfl rfl)
theorem dX2_pings_158 : decode cX2_pings 158 = .ok (.bipush 9, 2) := dk_16 9 (dk_at dksX2_pings_6 19 rfl rfl)
theorem dX2_pings_160 : decode cX2_pings 160 = .ok (.iaload, 1) := dk_46 (dk_at dksX2_pings_6 21 rfl rfl)
theorem dX2_pings_161 : decode cX2_pings 161 = .ok (.iconst 1, 1) := dk_4 (dk_at dksX2_pings_6 22 rfl rfl)
theorem dX2_pings_162 : decode cX2_pings 162 = .ok (.isub, 1) := dk_100 (dk_at dksX2_pings_6 23 rfl rfl)
theorem dX2_pings_163 : decode cX2_pings 163 = .ok (.invokestatic 116, 3) := dk_184 0 116 (dk_at dksX2_pings_7 0 rfl rfl)
theorem dX2_pings_166 : decode cX2_pings 166 = .ok (.iastore, 1) := dk_79 (dk_at dksX2_pings_7 3 rfl rfl)
theorem dX2_pings_167 : decode cX2_pings 167 = .ok (.return_, 1) := dk_177 (dk_at dksX2_pings_7 4 rfl rfl)
abbrev cX2_chosenWay : ByteArray := prog_10_method_32_code
def yX2_chosenWay : MethodName := ⟨RX2, "chosenWay", "()I"⟩
def dkwX2_chosenWay_0 : List UInt8 := [42, 2, 182, 0, 104, 172]
abbrev dktX2_chosenWay_0 : List UInt8 := dkwX2_chosenWay_0 ++ []
theorem dksX2_chosenWay_0 : cX2_chosenWay.data.toList.drop 0 = dktX2_chosenWay_0 := by decide +kernel
theorem dX2_chosenWay_0 : decode cX2_chosenWay 0 = .ok (.aload_n 0, 1) := dk_42 (dk_at dksX2_chosenWay_0 0 rfl rfl)
theorem dX2_chosenWay_1 : decode cX2_chosenWay 1 = .ok (.iconst (-1), 1) := dk_2 (dk_at dksX2_chosenWay_0 1 rfl rfl)
theorem dX2_chosenWay_2 : decode cX2_chosenWay 2 = .ok (.invokevirtual 104, 3) := dk_182 0 104 (dk_at dksX2_chosenWay_0 2 rfl rfl)
theorem dX2_chosenWay_5 : decode cX2_chosenWay 5 = .ok (.ireturn, 1) := dk_172 (dk_at dksX2_chosenWay_0 5 rfl rfl)
abbrev cX2_strongest : ByteArray := prog_10_method_33_code
def yX2_strongest : MethodName := ⟨RX2, "strongest", "(I)I"⟩
def dkwX2_strongest_2 : List UInt8 := [182, 0, 101, 164, 0, 5, 29, 61, 132, 3, 1, 167, 255, 204, 28, 172]
abbrev dktX2_strongest_2 : List UInt8 := dkwX2_strongest_2 ++ []
def dkwX2_strongest_1 : List UInt8 := [158, 0, 31, 42, 29, 182, 0, 107, 154, 0, 23, 28, 2, 159, 0, 16, 42, 29, 182, 0, 101, 42, 28]
abbrev dktX2_strongest_1 : List UInt8 := dkwX2_strongest_1 ++ dktX2_strongest_2
def dkwX2_strongest_0 : List UInt8 := [2, 61, 3, 62, 29, 42, 182, 0, 60, 163, 0, 50, 29, 27, 159, 0, 39, 42, 29, 182, 0, 101]
abbrev dktX2_strongest_0 : List UInt8 := dkwX2_strongest_0 ++ dktX2_strongest_1
theorem dksX2_strongest_0 : cX2_strongest.data.toList.drop 0 = dktX2_strongest_0 := by decide +kernel
theorem dksX2_strongest_1 : cX2_strongest.data.toList.drop 22 = dktX2_strongest_1 := dk_seg dksX2_strongest_0 22 rfl rfl
theorem dksX2_strongest_2 : cX2_strongest.data.toList.drop 45 = dktX2_strongest_2 := dk_seg dksX2_strongest_1 23 rfl rfl
theorem dX2_strongest_0 : decode cX2_strongest 0 = .ok (.iconst (-1), 1) := dk_2 (dk_at dksX2_strongest_0 0 rfl rfl)
theorem dX2_strongest_1 : decode cX2_strongest 1 = .ok (.istore_n 2, 1) := dk_61 (dk_at dksX2_strongest_0 1 rfl rfl)
theorem dX2_strongest_2 : decode cX2_strongest 2 = .ok (.iconst 0, 1) := dk_3 (dk_at dksX2_strongest_0 2 rfl rfl)
theorem dX2_strongest_3 : decode cX2_strongest 3 = .ok (.istore_n 3, 1) := dk_62 (dk_at dksX2_strongest_0 3 rfl rfl)
theorem dX2_strongest_4 : decode cX2_strongest 4 = .ok (.iload_n 3, 1) := dk_29 (dk_at dksX2_strongest_0 4 rfl rfl)
theorem dX2_strongest_5 : decode cX2_strongest 5 = .ok (.aload_n 0, 1) := dk_42 (dk_at dksX2_strongest_0 5 rfl rfl)
theorem dX2_strongest_6 : decode cX2_strongest 6 = .ok (.invokevirtual 60, 3) := dk_182 0 60 (dk_at dksX2_strongest_0 6 rfl rfl)
theorem dX2_strongest_9 : decode cX2_strongest 9 = .ok (.if_icmp .gt 50, 3) := dk_163 0 50 (dk_at dksX2_strongest_0 9 rfl rfl)
theorem dX2_strongest_12 : decode cX2_strongest 12 = .ok (.iload_n 3, 1) := dk_29 (dk_at dksX2_strongest_0 12 rfl rfl)
theorem dX2_strongest_13 : decode cX2_strongest 13 = .ok (.iload_n 1, 1) := dk_27 (dk_at dksX2_strongest_0 13 rfl rfl)
theorem dX2_strongest_14 : decode cX2_strongest 14 = .ok (.if_icmp .eq 39, 3) := dk_159 0 39 (dk_at dksX2_strongest_0 14 rfl rfl)
theorem dX2_strongest_17 : decode cX2_strongest 17 = .ok (.aload_n 0, 1) := dk_42 (dk_at dksX2_strongest_0 17 rfl rfl)
theorem dX2_strongest_18 : decode cX2_strongest 18 = .ok (.iload_n 3, 1) := dk_29 (dk_at dksX2_strongest_0 18 rfl rfl)
theorem dX2_strongest_19 : decode cX2_strongest 19 = .ok (.invokevirtual 101, 3) := dk_182 0 101 (dk_at dksX2_strongest_0 19 rfl rfl)
theorem dX2_strongest_22 : decode cX2_strongest 22 = .ok (.ifCond .le 31, 3) := dk_158 0 31 (dk_at dksX2_strongest_1 0 rfl rfl)
theorem dX2_strongest_25 : decode cX2_strongest 25 = .ok (.aload_n 0, 1) := dk_42 (dk_at dksX2_strongest_1 3 rfl rfl)
theorem dX2_strongest_26 : decode cX2_strongest 26 = .ok (.iload_n 3, 1) := dk_29 (dk_at dksX2_strongest_1 4 rfl rfl)
theorem dX2_strongest_27 : decode cX2_strongest 27 = .ok (.invokevirtual 107, 3) := dk_182 0 107 (dk_at dksX2_strongest_1 5 rfl rfl)
theorem dX2_strongest_30 : decode cX2_strongest 30 = .ok (.ifCond .ne 23, 3) := dk_154 0 23 (dk_at dksX2_strongest_1 8 rfl rfl)
theorem dX2_strongest_33 : decode cX2_strongest 33 = .ok (.iload_n 2, 1) := dk_28 (dk_at dksX2_strongest_1 11 rfl rfl)
theorem dX2_strongest_34 : decode cX2_strongest 34 = .ok (.iconst (-1), 1) := dk_2 (dk_at dksX2_strongest_1 12 rfl rfl)
theorem dX2_strongest_35 : decode cX2_strongest 35 = .ok (.if_icmp .eq 16, 3) := dk_159 0 16 (dk_at dksX2_strongest_1 13 rfl rfl)
theorem dX2_strongest_38 : decode cX2_strongest 38 = .ok (.aload_n 0, 1) := dk_42 (dk_at dksX2_strongest_1 16 rfl rfl)
theorem dX2_strongest_39 : decode cX2_strongest 39 = .ok (.iload_n 3, 1) := dk_29 (dk_at dksX2_strongest_1 17 rfl rfl)
theorem dX2_strongest_40 : decode cX2_strongest 40 = .ok (.invokevirtual 101, 3) := dk_182 0 101 (dk_at dksX2_strongest_1 18 rfl rfl)
theorem dX2_strongest_43 : decode cX2_strongest 43 = .ok (.aload_n 0, 1) := dk_42 (dk_at dksX2_strongest_1 21 rfl rfl)
theorem dX2_strongest_44 : decode cX2_strongest 44 = .ok (.iload_n 2, 1) := dk_28 (dk_at dksX2_strongest_1 22 rfl rfl)
theorem dX2_strongest_45 : decode cX2_strongest 45 = .ok (.invokevirtual 101, 3) := dk_182 0 101 (dk_at dksX2_strongest_2 0 rfl rfl)
theorem dX2_strongest_48 : decode cX2_strongest 48 = .ok (.if_icmp .le 5, 3) := dk_164 0 5 (dk_at dksX2_strongest_2 3 rfl rfl)
theorem dX2_strongest_51 : decode cX2_strongest 51 = .ok (.iload_n 3, 1) := dk_29 (dk_at dksX2_strongest_2 6 rfl rfl)
theorem dX2_strongest_52 : decode cX2_strongest 52 = .ok (.istore_n 2, 1) := dk_61 (dk_at dksX2_strongest_2 7 rfl rfl)
theorem dX2_strongest_53 : decode cX2_strongest 53 = .ok (.iinc 3 1, 3) := dk_132 3 1 (dk_at dksX2_strongest_2 8 rfl rfl)
theorem dX2_strongest_56 : decode cX2_strongest 56 = .ok (.goto (-52), 3) := dk_167 255 204 (dk_at dksX2_strongest_2 11 rfl rfl)
theorem dX2_strongest_59 : decode cX2_strongest 59 = .ok (.iload_n 2, 1) := dk_28 (dk_at dksX2_strongest_2 14 rfl rfl)
theorem dX2_strongest_60 : decode cX2_strongest 60 = .ok (.ireturn, 1) := dk_172 (dk_at dksX2_strongest_2 15 rfl rfl)
abbrev cX2_heardFrom : ByteArray := prog_10_method_30_code
def yX2_heardFrom : MethodName := ⟨RX2, "heardFrom", "(I)I"⟩
def dkwX2_heardFrom_3 : List UInt8 := [167, 0, 4, 3, 172]
abbrev dktX2_heardFrom_3 : List UInt8 := dkwX2_heardFrom_3 ++ []
def dkwX2_heardFrom_2 : List UInt8 := [29, 182, 0, 98, 61, 132, 3, 1, 167, 255, 219, 28, 42, 180, 0, 7, 16, 6, 46, 161, 0, 7, 28]
abbrev dktX2_heardFrom_2 : List UInt8 := dkwX2_heardFrom_2 ++ dktX2_heardFrom_3
def dkwX2_heardFrom_1 : List UInt8 := [16, 21, 46, 162, 0, 32, 42, 29, 182, 0, 89, 27, 160, 0, 17, 42, 29, 182, 0, 95, 153, 0, 9, 42]
abbrev dktX2_heardFrom_1 : List UInt8 := dkwX2_heardFrom_1 ++ dktX2_heardFrom_2
def dkwX2_heardFrom_0 : List UInt8 := [27, 42, 182, 0, 83, 160, 0, 10, 42, 182, 0, 92, 167, 0, 4, 3, 61, 3, 62, 29, 42, 180, 0, 7]
abbrev dktX2_heardFrom_0 : List UInt8 := dkwX2_heardFrom_0 ++ dktX2_heardFrom_1
theorem dksX2_heardFrom_0 : cX2_heardFrom.data.toList.drop 0 = dktX2_heardFrom_0 := by decide +kernel
theorem dksX2_heardFrom_1 : cX2_heardFrom.data.toList.drop 24 = dktX2_heardFrom_1 := dk_seg dksX2_heardFrom_0 24 rfl rfl
theorem dksX2_heardFrom_2 : cX2_heardFrom.data.toList.drop 48 = dktX2_heardFrom_2 := dk_seg dksX2_heardFrom_1 24 rfl rfl
theorem dksX2_heardFrom_3 : cX2_heardFrom.data.toList.drop 71 = dktX2_heardFrom_3 := dk_seg dksX2_heardFrom_2 23 rfl rfl
theorem dX2_heardFrom_0 : decode cX2_heardFrom 0 = .ok (.iload_n 1, 1) := dk_27 (dk_at dksX2_heardFrom_0 0 rfl rfl)
theorem dX2_heardFrom_1 : decode cX2_heardFrom 1 = .ok (.aload_n 0, 1) := dk_42 (dk_at dksX2_heardFrom_0 1 rfl rfl)
theorem dX2_heardFrom_2 : decode cX2_heardFrom 2 = .ok (.invokevirtual 83, 3) := dk_182 0 83 (dk_at dksX2_heardFrom_0 2 rfl rfl)
theorem dX2_heardFrom_5 : decode cX2_heardFrom 5 = .ok (.if_icmp .ne 10, 3) := dk_160 0 10 (dk_at dksX2_heardFrom_0 5 rfl rfl)
theorem dX2_heardFrom_8 : decode cX2_heardFrom 8 = .ok (.aload_n 0, 1) := dk_42 (dk_at dksX2_heardFrom_0 8 rfl rfl)
theorem dX2_heardFrom_9 : decode cX2_heardFrom 9 = .ok (.invokevirtual 92, 3) := dk_182 0 92 (dk_at dksX2_heardFrom_0 9 rfl rfl)
theorem dX2_heardFrom_12 : decode cX2_heardFrom 12 = .ok (.goto 4, 3) := dk_167 0 4 (dk_at dksX2_heardFrom_0 12 rfl rfl)
theorem dX2_heardFrom_15 : decode cX2_heardFrom 15 = .ok (.iconst 0, 1) := dk_3 (dk_at dksX2_heardFrom_0 15 rfl rfl)
theorem dX2_heardFrom_16 : decode cX2_heardFrom 16 = .ok (.istore_n 2, 1) := dk_61 (dk_at dksX2_heardFrom_0 16 rfl rfl)
theorem dX2_heardFrom_17 : decode cX2_heardFrom 17 = .ok (.iconst 0, 1) := dk_3 (dk_at dksX2_heardFrom_0 17 rfl rfl)
theorem dX2_heardFrom_18 : decode cX2_heardFrom 18 = .ok (.istore_n 3, 1) := dk_62 (dk_at dksX2_heardFrom_0 18 rfl rfl)
theorem dX2_heardFrom_19 : decode cX2_heardFrom 19 = .ok (.iload_n 3, 1) := dk_29 (dk_at dksX2_heardFrom_0 19 rfl rfl)
theorem dX2_heardFrom_20 : decode cX2_heardFrom 20 = .ok (.aload_n 0, 1) := dk_42 (dk_at dksX2_heardFrom_0 20 rfl rfl)
theorem dX2_heardFrom_21 : decode cX2_heardFrom 21 = .ok (.getfield 7, 3) := dk_180 0 7 (dk_at dksX2_heardFrom_0 21 rfl rfl)
theorem dX2_heardFrom_24 : decode cX2_heardFrom 24 = .ok (.bipush 21, 2) := dk_16 21 (dk_at dksX2_heardFrom_1 0 rfl rfl)
theorem dX2_heardFrom_26 : decode cX2_heardFrom 26 = .ok (.iaload, 1) := dk_46 (dk_at dksX2_heardFrom_1 2 rfl rfl)
theorem dX2_heardFrom_27 : decode cX2_heardFrom 27 = .ok (.if_icmp .ge 32, 3) := dk_162 0 32 (dk_at dksX2_heardFrom_1 3 rfl rfl)
theorem dX2_heardFrom_30 : decode cX2_heardFrom 30 = .ok (.aload_n 0, 1) := dk_42 (dk_at dksX2_heardFrom_1 6 rfl rfl)
theorem dX2_heardFrom_31 : decode cX2_heardFrom 31 = .ok (.iload_n 3, 1) := dk_29 (dk_at dksX2_heardFrom_1 7 rfl rfl)
theorem dX2_heardFrom_32 : decode cX2_heardFrom 32 = .ok (.invokevirtual 89, 3) := dk_182 0 89 (dk_at dksX2_heardFrom_1 8 rfl rfl)
theorem dX2_heardFrom_35 : decode cX2_heardFrom 35 = .ok (.iload_n 1, 1) := dk_27 (dk_at dksX2_heardFrom_1 11 rfl rfl)
theorem dX2_heardFrom_36 : decode cX2_heardFrom 36 = .ok (.if_icmp .ne 17, 3) := dk_160 0 17 (dk_at dksX2_heardFrom_1 12 rfl rfl)
theorem dX2_heardFrom_39 : decode cX2_heardFrom 39 = .ok (.aload_n 0, 1) := dk_42 (dk_at dksX2_heardFrom_1 15 rfl rfl)
theorem dX2_heardFrom_40 : decode cX2_heardFrom 40 = .ok (.iload_n 3, 1) := dk_29 (dk_at dksX2_heardFrom_1 16 rfl rfl)
theorem dX2_heardFrom_41 : decode cX2_heardFrom 41 = .ok (.invokevirtual 95, 3) := dk_182 0 95 (dk_at dksX2_heardFrom_1 17 rfl rfl)
theorem dX2_heardFrom_44 : decode cX2_heardFrom 44 = .ok (.ifCond .eq 9, 3) := dk_153 0 9 (dk_at dksX2_heardFrom_1 20 rfl rfl)
theorem dX2_heardFrom_47 : decode cX2_heardFrom 47 = .ok (.aload_n 0, 1) := dk_42 (dk_at dksX2_heardFrom_1 23 rfl rfl)
theorem dX2_heardFrom_48 : decode cX2_heardFrom 48 = .ok (.iload_n 3, 1) := dk_29 (dk_at dksX2_heardFrom_2 0 rfl rfl)
theorem dX2_heardFrom_49 : decode cX2_heardFrom 49 = .ok (.invokevirtual 98, 3) := dk_182 0 98 (dk_at dksX2_heardFrom_2 1 rfl rfl)
theorem dX2_heardFrom_52 : decode cX2_heardFrom 52 = .ok (.istore_n 2, 1) := dk_61 (dk_at dksX2_heardFrom_2 4 rfl rfl)
theorem dX2_heardFrom_53 : decode cX2_heardFrom 53 = .ok (.iinc 3 1, 3) := dk_132 3 1 (dk_at dksX2_heardFrom_2 5 rfl rfl)
theorem dX2_heardFrom_56 : decode cX2_heardFrom 56 = .ok (.goto (-37), 3) := dk_167 255 219 (dk_at dksX2_heardFrom_2 8 rfl rfl)
theorem dX2_heardFrom_59 : decode cX2_heardFrom 59 = .ok (.iload_n 2, 1) := dk_28 (dk_at dksX2_heardFrom_2 11 rfl rfl)
theorem dX2_heardFrom_60 : decode cX2_heardFrom 60 = .ok (.aload_n 0, 1) := dk_42 (dk_at dksX2_heardFrom_2 12 rfl rfl)
theorem dX2_heardFrom_61 : decode cX2_heardFrom 61 = .ok (.getfield 7, 3) := dk_180 0 7 (dk_at dksX2_heardFrom_2 13 rfl rfl)
theorem dX2_heardFrom_64 : decode cX2_heardFrom 64 = .ok (.bipush 6, 2) := dk_16 6 (dk_at dksX2_heardFrom_2 16 rfl rfl)
theorem dX2_heardFrom_66 : decode cX2_heardFrom 66 = .ok (.iaload, 1) := dk_46 (dk_at dksX2_heardFrom_2 18 rfl rfl)
theorem dX2_heardFrom_67 : decode cX2_heardFrom 67 = .ok (.if_icmp .lt 7, 3) := dk_161 0 7 (dk_at dksX2_heardFrom_2 19 rfl rfl)
theorem dX2_heardFrom_70 : decode cX2_heardFrom 70 = .ok (.iload_n 2, 1) := dk_28 (dk_at dksX2_heardFrom_2 22 rfl rfl)
theorem dX2_heardFrom_71 : decode cX2_heardFrom 71 = .ok (.goto 4, 3) := dk_167 0 4 (dk_at dksX2_heardFrom_3 0 rfl rfl)
theorem dX2_heardFrom_74 : decode cX2_heardFrom 74 = .ok (.iconst 0, 1) := dk_3 (dk_at dksX2_heardFrom_3 3 rfl rfl)
theorem dX2_heardFrom_75 : decode cX2_heardFrom 75 = .ok (.ireturn, 1) := dk_172 (dk_at dksX2_heardFrom_3 4 rfl rfl)
abbrev cX2_heapWay : ByteArray := prog_10_method_23_code
def yX2_heapWay : MethodName := ⟨RX2, "heapWay", "()I"⟩
def dkwX2_heapWay_0 : List UInt8 := [42, 182, 0, 60, 42, 42, 180, 0, 7, 7, 46, 182, 0, 49, 100, 172]
abbrev dktX2_heapWay_0 : List UInt8 := dkwX2_heapWay_0 ++ []
theorem dksX2_heapWay_0 : cX2_heapWay.data.toList.drop 0 = dktX2_heapWay_0 := by decide +kernel
theorem dX2_heapWay_0 : decode cX2_heapWay 0 = .ok (.aload_n 0, 1) := dk_42 (dk_at dksX2_heapWay_0 0 rfl rfl)
theorem dX2_heapWay_1 : decode cX2_heapWay 1 = .ok (.invokevirtual 60, 3) := dk_182 0 60 (dk_at dksX2_heapWay_0 1 rfl rfl)
theorem dX2_heapWay_4 : decode cX2_heapWay 4 = .ok (.aload_n 0, 1) := dk_42 (dk_at dksX2_heapWay_0 4 rfl rfl)
theorem dX2_heapWay_5 : decode cX2_heapWay 5 = .ok (.aload_n 0, 1) := dk_42 (dk_at dksX2_heapWay_0 5 rfl rfl)
theorem dX2_heapWay_6 : decode cX2_heapWay 6 = .ok (.getfield 7, 3) := dk_180 0 7 (dk_at dksX2_heapWay_0 6 rfl rfl)
theorem dX2_heapWay_9 : decode cX2_heapWay 9 = .ok (.iconst 4, 1) := dk_7 (dk_at dksX2_heapWay_0 9 rfl rfl)
theorem dX2_heapWay_10 : decode cX2_heapWay 10 = .ok (.iaload, 1) := dk_46 (dk_at dksX2_heapWay_0 10 rfl rfl)
theorem dX2_heapWay_11 : decode cX2_heapWay 11 = .ok (.invokevirtual 49, 3) := dk_182 0 49 (dk_at dksX2_heapWay_0 11 rfl rfl)
theorem dX2_heapWay_14 : decode cX2_heapWay 14 = .ok (.isub, 1) := dk_100 (dk_at dksX2_heapWay_0 14 rfl rfl)
theorem dX2_heapWay_15 : decode cX2_heapWay 15 = .ok (.ireturn, 1) := dk_172 (dk_at dksX2_heapWay_0 15 rfl rfl)
abbrev cX2_heapStrength : ByteArray := prog_10_method_26_code
def yX2_heapStrength : MethodName := ⟨RX2, "heapStrength", "()I"⟩
def dkwX2_heapStrength_0 : List UInt8 := [42, 180, 0, 7, 8, 46, 42, 182, 0, 83, 100, 42, 42, 182, 0, 83, 182, 0, 86, 100, 172]
abbrev dktX2_heapStrength_0 : List UInt8 := dkwX2_heapStrength_0 ++ []
theorem dksX2_heapStrength_0 : cX2_heapStrength.data.toList.drop 0 = dktX2_heapStrength_0 := by decide +kernel
theorem dX2_heapStrength_0 : decode cX2_heapStrength 0 = .ok (.aload_n 0, 1) := dk_42 (dk_at dksX2_heapStrength_0 0 rfl rfl)
theorem dX2_heapStrength_1 : decode cX2_heapStrength 1 = .ok (.getfield 7, 3) := dk_180 0 7 (dk_at dksX2_heapStrength_0 1 rfl rfl)
theorem dX2_heapStrength_4 : decode cX2_heapStrength 4 = .ok (.iconst 5, 1) := dk_8 (dk_at dksX2_heapStrength_0 4 rfl rfl)
theorem dX2_heapStrength_5 : decode cX2_heapStrength 5 = .ok (.iaload, 1) := dk_46 (dk_at dksX2_heapStrength_0 5 rfl rfl)
theorem dX2_heapStrength_6 : decode cX2_heapStrength 6 = .ok (.aload_n 0, 1) := dk_42 (dk_at dksX2_heapStrength_0 6 rfl rfl)
theorem dX2_heapStrength_7 : decode cX2_heapStrength 7 = .ok (.invokevirtual 83, 3) := dk_182 0 83 (dk_at dksX2_heapStrength_0 7 rfl rfl)
theorem dX2_heapStrength_10 : decode cX2_heapStrength 10 = .ok (.isub, 1) := dk_100 (dk_at dksX2_heapStrength_0 10 rfl rfl)
theorem dX2_heapStrength_11 : decode cX2_heapStrength 11 = .ok (.aload_n 0, 1) := dk_42 (dk_at dksX2_heapStrength_0 11 rfl rfl)
theorem dX2_heapStrength_12 : decode cX2_heapStrength 12 = .ok (.aload_n 0, 1) := dk_42 (dk_at dksX2_heapStrength_0 12 rfl rfl)
theorem dX2_heapStrength_13 : decode cX2_heapStrength 13 = .ok (.invokevirtual 83, 3) := dk_182 0 83 (dk_at dksX2_heapStrength_0 13 rfl rfl)
theorem dX2_heapStrength_16 : decode cX2_heapStrength 16 = .ok (.invokevirtual 86, 3) := dk_182 0 86 (dk_at dksX2_heapStrength_0 16 rfl rfl)
theorem dX2_heapStrength_19 : decode cX2_heapStrength 19 = .ok (.isub, 1) := dk_100 (dk_at dksX2_heapStrength_0 19 rfl rfl)
theorem dX2_heapStrength_20 : decode cX2_heapStrength 20 = .ok (.ireturn, 1) := dk_172 (dk_at dksX2_heapStrength_0 20 rfl rfl)
abbrev cX2_lossOf : ByteArray := prog_10_method_25_code
def yX2_lossOf : MethodName := ⟨RX2, "lossOf", "(I)I"⟩
def dkwX2_lossOf_0 : List UInt8 := [27, 42, 180, 0, 7, 16, 9, 46, 104, 16, 10, 108, 172]
abbrev dktX2_lossOf_0 : List UInt8 := dkwX2_lossOf_0 ++ []
theorem dksX2_lossOf_0 : cX2_lossOf.data.toList.drop 0 = dktX2_lossOf_0 := by decide +kernel
theorem dX2_lossOf_0 : decode cX2_lossOf 0 = .ok (.iload_n 1, 1) := dk_27 (dk_at dksX2_lossOf_0 0 rfl rfl)
theorem dX2_lossOf_1 : decode cX2_lossOf 1 = .ok (.aload_n 0, 1) := dk_42 (dk_at dksX2_lossOf_0 1 rfl rfl)
theorem dX2_lossOf_2 : decode cX2_lossOf 2 = .ok (.getfield 7, 3) := dk_180 0 7 (dk_at dksX2_lossOf_0 2 rfl rfl)
theorem dX2_lossOf_5 : decode cX2_lossOf 5 = .ok (.bipush 9, 2) := dk_16 9 (dk_at dksX2_lossOf_0 5 rfl rfl)
theorem dX2_lossOf_7 : decode cX2_lossOf 7 = .ok (.iaload, 1) := dk_46 (dk_at dksX2_lossOf_0 7 rfl rfl)
theorem dX2_lossOf_8 : decode cX2_lossOf 8 = .ok (.imul, 1) := dk_104 (dk_at dksX2_lossOf_0 8 rfl rfl)
theorem dX2_lossOf_9 : decode cX2_lossOf 9 = .ok (.bipush 10, 2) := dk_16 10 (dk_at dksX2_lossOf_0 9 rfl rfl)
theorem dX2_lossOf_11 : decode cX2_lossOf 11 = .ok (.idiv, 1) := dk_108 (dk_at dksX2_lossOf_0 11 rfl rfl)
theorem dX2_lossOf_12 : decode cX2_lossOf 12 = .ok (.ireturn, 1) := dk_172 (dk_at dksX2_lossOf_0 12 rfl rfl)
abbrev cX2_hasEcho : ByteArray := prog_10_method_28_code
def yX2_hasEcho : MethodName := ⟨RX2, "hasEcho", "(I)Z"⟩
def dkwX2_hasEcho_0 : List UInt8 := [42, 27, 182, 0, 89, 42, 182, 0, 83, 162, 0, 7, 4, 167, 0, 4, 3, 172]
abbrev dktX2_hasEcho_0 : List UInt8 := dkwX2_hasEcho_0 ++ []
theorem dksX2_hasEcho_0 : cX2_hasEcho.data.toList.drop 0 = dktX2_hasEcho_0 := by decide +kernel
theorem dX2_hasEcho_0 : decode cX2_hasEcho 0 = .ok (.aload_n 0, 1) := dk_42 (dk_at dksX2_hasEcho_0 0 rfl rfl)
theorem dX2_hasEcho_1 : decode cX2_hasEcho 1 = .ok (.iload_n 1, 1) := dk_27 (dk_at dksX2_hasEcho_0 1 rfl rfl)
theorem dX2_hasEcho_2 : decode cX2_hasEcho 2 = .ok (.invokevirtual 89, 3) := dk_182 0 89 (dk_at dksX2_hasEcho_0 2 rfl rfl)
theorem dX2_hasEcho_5 : decode cX2_hasEcho 5 = .ok (.aload_n 0, 1) := dk_42 (dk_at dksX2_hasEcho_0 5 rfl rfl)
theorem dX2_hasEcho_6 : decode cX2_hasEcho 6 = .ok (.invokevirtual 83, 3) := dk_182 0 83 (dk_at dksX2_hasEcho_0 6 rfl rfl)
theorem dX2_hasEcho_9 : decode cX2_hasEcho 9 = .ok (.if_icmp .ge 7, 3) := dk_162 0 7 (dk_at dksX2_hasEcho_0 9 rfl rfl)
theorem dX2_hasEcho_12 : decode cX2_hasEcho 12 = .ok (.iconst 1, 1) := dk_4 (dk_at dksX2_hasEcho_0 12 rfl rfl)
theorem dX2_hasEcho_13 : decode cX2_hasEcho 13 = .ok (.goto 4, 3) := dk_167 0 4 (dk_at dksX2_hasEcho_0 13 rfl rfl)
theorem dX2_hasEcho_16 : decode cX2_hasEcho 16 = .ok (.iconst 0, 1) := dk_3 (dk_at dksX2_hasEcho_0 16 rfl rfl)
theorem dX2_hasEcho_17 : decode cX2_hasEcho 17 = .ok (.ireturn, 1) := dk_172 (dk_at dksX2_hasEcho_0 17 rfl rfl)
abbrev cX2_barStrength : ByteArray := prog_10_method_29_code
def yX2_barStrength : MethodName := ⟨RX2, "barStrength", "(I)I"⟩
def dkwX2_barStrength_0 : List UInt8 := [42, 180, 0, 7, 16, 40, 5, 27, 104, 96, 4, 96, 46, 42, 42, 27, 182, 0, 89, 182, 0, 86, 100, 172]
abbrev dktX2_barStrength_0 : List UInt8 := dkwX2_barStrength_0 ++ []
theorem dksX2_barStrength_0 : cX2_barStrength.data.toList.drop 0 = dktX2_barStrength_0 := by decide +kernel
theorem dX2_barStrength_0 : decode cX2_barStrength 0 = .ok (.aload_n 0, 1) := dk_42 (dk_at dksX2_barStrength_0 0 rfl rfl)
theorem dX2_barStrength_1 : decode cX2_barStrength 1 = .ok (.getfield 7, 3) := dk_180 0 7 (dk_at dksX2_barStrength_0 1 rfl rfl)
theorem dX2_barStrength_4 : decode cX2_barStrength 4 = .ok (.bipush 40, 2) := dk_16 40 (dk_at dksX2_barStrength_0 4 rfl rfl)
theorem dX2_barStrength_6 : decode cX2_barStrength 6 = .ok (.iconst 2, 1) := dk_5 (dk_at dksX2_barStrength_0 6 rfl rfl)
theorem dX2_barStrength_7 : decode cX2_barStrength 7 = .ok (.iload_n 1, 1) := dk_27 (dk_at dksX2_barStrength_0 7 rfl rfl)
theorem dX2_barStrength_8 : decode cX2_barStrength 8 = .ok (.imul, 1) := dk_104 (dk_at dksX2_barStrength_0 8 rfl rfl)
theorem dX2_barStrength_9 : decode cX2_barStrength 9 = .ok (.iadd, 1) := dk_96 (dk_at dksX2_barStrength_0 9 rfl rfl)
theorem dX2_barStrength_10 : decode cX2_barStrength 10 = .ok (.iconst 1, 1) := dk_4 (dk_at dksX2_barStrength_0 10 rfl rfl)
theorem dX2_barStrength_11 : decode cX2_barStrength 11 = .ok (.iadd, 1) := dk_96 (dk_at dksX2_barStrength_0 11 rfl rfl)
theorem dX2_barStrength_12 : decode cX2_barStrength 12 = .ok (.iaload, 1) := dk_46 (dk_at dksX2_barStrength_0 12 rfl rfl)
theorem dX2_barStrength_13 : decode cX2_barStrength 13 = .ok (.aload_n 0, 1) := dk_42 (dk_at dksX2_barStrength_0 13 rfl rfl)
theorem dX2_barStrength_14 : decode cX2_barStrength 14 = .ok (.aload_n 0, 1) := dk_42 (dk_at dksX2_barStrength_0 14 rfl rfl)
theorem dX2_barStrength_15 : decode cX2_barStrength 15 = .ok (.iload_n 1, 1) := dk_27 (dk_at dksX2_barStrength_0 15 rfl rfl)
theorem dX2_barStrength_16 : decode cX2_barStrength 16 = .ok (.invokevirtual 89, 3) := dk_182 0 89 (dk_at dksX2_barStrength_0 16 rfl rfl)
theorem dX2_barStrength_19 : decode cX2_barStrength 19 = .ok (.invokevirtual 86, 3) := dk_182 0 86 (dk_at dksX2_barStrength_0 19 rfl rfl)
theorem dX2_barStrength_22 : decode cX2_barStrength 22 = .ok (.isub, 1) := dk_100 (dk_at dksX2_barStrength_0 22 rfl rfl)
theorem dX2_barStrength_23 : decode cX2_barStrength 23 = .ok (.ireturn, 1) := dk_172 (dk_at dksX2_barStrength_0 23 rfl rfl)
abbrev cX2_isMasked : ByteArray := prog_10_method_31_code
def yX2_isMasked : MethodName := ⟨RX2, "isMasked", "(I)Z"⟩
def dkwX2_isMasked_0 : List UInt8 := [42, 27, 182, 0, 101, 42, 180, 0, 7, 16, 52, 27, 96, 46, 163, 0, 7, 4, 167, 0, 4, 3, 172]
abbrev dktX2_isMasked_0 : List UInt8 := dkwX2_isMasked_0 ++ []
theorem dksX2_isMasked_0 : cX2_isMasked.data.toList.drop 0 = dktX2_isMasked_0 := by decide +kernel
theorem dX2_isMasked_0 : decode cX2_isMasked 0 = .ok (.aload_n 0, 1) := dk_42 (dk_at dksX2_isMasked_0 0 rfl rfl)
theorem dX2_isMasked_1 : decode cX2_isMasked 1 = .ok (.iload_n 1, 1) := dk_27 (dk_at dksX2_isMasked_0 1 rfl rfl)
theorem dX2_isMasked_2 : decode cX2_isMasked 2 = .ok (.invokevirtual 101, 3) := dk_182 0 101 (dk_at dksX2_isMasked_0 2 rfl rfl)
theorem dX2_isMasked_5 : decode cX2_isMasked 5 = .ok (.aload_n 0, 1) := dk_42 (dk_at dksX2_isMasked_0 5 rfl rfl)
theorem dX2_isMasked_6 : decode cX2_isMasked 6 = .ok (.getfield 7, 3) := dk_180 0 7 (dk_at dksX2_isMasked_0 6 rfl rfl)
theorem dX2_isMasked_9 : decode cX2_isMasked 9 = .ok (.bipush 52, 2) := dk_16 52 (dk_at dksX2_isMasked_0 9 rfl rfl)
theorem dX2_isMasked_11 : decode cX2_isMasked 11 = .ok (.iload_n 1, 1) := dk_27 (dk_at dksX2_isMasked_0 11 rfl rfl)
theorem dX2_isMasked_12 : decode cX2_isMasked 12 = .ok (.iadd, 1) := dk_96 (dk_at dksX2_isMasked_0 12 rfl rfl)
theorem dX2_isMasked_13 : decode cX2_isMasked 13 = .ok (.iaload, 1) := dk_46 (dk_at dksX2_isMasked_0 13 rfl rfl)
theorem dX2_isMasked_14 : decode cX2_isMasked 14 = .ok (.if_icmp .gt 7, 3) := dk_163 0 7 (dk_at dksX2_isMasked_0 14 rfl rfl)
theorem dX2_isMasked_17 : decode cX2_isMasked 17 = .ok (.iconst 1, 1) := dk_4 (dk_at dksX2_isMasked_0 17 rfl rfl)
theorem dX2_isMasked_18 : decode cX2_isMasked 18 = .ok (.goto 4, 3) := dk_167 0 4 (dk_at dksX2_isMasked_0 18 rfl rfl)
theorem dX2_isMasked_21 : decode cX2_isMasked 21 = .ok (.iconst 0, 1) := dk_3 (dk_at dksX2_isMasked_0 21 rfl rfl)
theorem dX2_isMasked_22 : decode cX2_isMasked 22 = .ok (.ireturn, 1) := dk_172 (dk_at dksX2_isMasked_0 22 rfl rfl)
abbrev cX2_learns : ByteArray := prog_10_method_35_code
def yX2_learns : MethodName := ⟨RX2, "learns", "(I)I"⟩
def dkwX2_learns_2 : List UInt8 := [79, 132, 2, 1, 132, 3, 1, 167, 255, 206, 28, 172]
abbrev dktX2_learns_2 : List UInt8 := dkwX2_learns_2 ++ []
def dkwX2_learns_1 : List UInt8 := [180, 0, 7, 16, 52, 29, 96, 46, 164, 0, 20, 42, 180, 0, 7, 16, 52, 29, 96, 42, 29, 182, 0, 101]
abbrev dktX2_learns_1 : List UInt8 := dkwX2_learns_1 ++ dktX2_learns_2
def dkwX2_learns_0 : List UInt8 := [3, 61, 3, 62, 29, 27, 162, 0, 51, 29, 42, 182, 0, 60, 163, 0, 43, 42, 29, 182, 0, 101, 42]
abbrev dktX2_learns_0 : List UInt8 := dkwX2_learns_0 ++ dktX2_learns_1
theorem dksX2_learns_0 : cX2_learns.data.toList.drop 0 = dktX2_learns_0 := by decide +kernel
theorem dksX2_learns_1 : cX2_learns.data.toList.drop 23 = dktX2_learns_1 := dk_seg dksX2_learns_0 23 rfl rfl
theorem dksX2_learns_2 : cX2_learns.data.toList.drop 47 = dktX2_learns_2 := dk_seg dksX2_learns_1 24 rfl rfl
theorem dX2_learns_0 : decode cX2_learns 0 = .ok (.iconst 0, 1) := dk_3 (dk_at dksX2_learns_0 0 rfl rfl)
theorem dX2_learns_1 : decode cX2_learns 1 = .ok (.istore_n 2, 1) := dk_61 (dk_at dksX2_learns_0 1 rfl rfl)
theorem dX2_learns_2 : decode cX2_learns 2 = .ok (.iconst 0, 1) := dk_3 (dk_at dksX2_learns_0 2 rfl rfl)
theorem dX2_learns_3 : decode cX2_learns 3 = .ok (.istore_n 3, 1) := dk_62 (dk_at dksX2_learns_0 3 rfl rfl)
theorem dX2_learns_4 : decode cX2_learns 4 = .ok (.iload_n 3, 1) := dk_29 (dk_at dksX2_learns_0 4 rfl rfl)
theorem dX2_learns_5 : decode cX2_learns 5 = .ok (.iload_n 1, 1) := dk_27 (dk_at dksX2_learns_0 5 rfl rfl)
theorem dX2_learns_6 : decode cX2_learns 6 = .ok (.if_icmp .ge 51, 3) := dk_162 0 51 (dk_at dksX2_learns_0 6 rfl rfl)
theorem dX2_learns_9 : decode cX2_learns 9 = .ok (.iload_n 3, 1) := dk_29 (dk_at dksX2_learns_0 9 rfl rfl)
theorem dX2_learns_10 : decode cX2_learns 10 = .ok (.aload_n 0, 1) := dk_42 (dk_at dksX2_learns_0 10 rfl rfl)
theorem dX2_learns_11 : decode cX2_learns 11 = .ok (.invokevirtual 60, 3) := dk_182 0 60 (dk_at dksX2_learns_0 11 rfl rfl)
theorem dX2_learns_14 : decode cX2_learns 14 = .ok (.if_icmp .gt 43, 3) := dk_163 0 43 (dk_at dksX2_learns_0 14 rfl rfl)
theorem dX2_learns_17 : decode cX2_learns 17 = .ok (.aload_n 0, 1) := dk_42 (dk_at dksX2_learns_0 17 rfl rfl)
theorem dX2_learns_18 : decode cX2_learns 18 = .ok (.iload_n 3, 1) := dk_29 (dk_at dksX2_learns_0 18 rfl rfl)
theorem dX2_learns_19 : decode cX2_learns 19 = .ok (.invokevirtual 101, 3) := dk_182 0 101 (dk_at dksX2_learns_0 19 rfl rfl)
theorem dX2_learns_22 : decode cX2_learns 22 = .ok (.aload_n 0, 1) := dk_42 (dk_at dksX2_learns_0 22 rfl rfl)
theorem dX2_learns_23 : decode cX2_learns 23 = .ok (.getfield 7, 3) := dk_180 0 7 (dk_at dksX2_learns_1 0 rfl rfl)
theorem dX2_learns_26 : decode cX2_learns 26 = .ok (.bipush 52, 2) := dk_16 52 (dk_at dksX2_learns_1 3 rfl rfl)
theorem dX2_learns_28 : decode cX2_learns 28 = .ok (.iload_n 3, 1) := dk_29 (dk_at dksX2_learns_1 5 rfl rfl)
theorem dX2_learns_29 : decode cX2_learns 29 = .ok (.iadd, 1) := dk_96 (dk_at dksX2_learns_1 6 rfl rfl)
theorem dX2_learns_30 : decode cX2_learns 30 = .ok (.iaload, 1) := dk_46 (dk_at dksX2_learns_1 7 rfl rfl)
theorem dX2_learns_31 : decode cX2_learns 31 = .ok (.if_icmp .le 20, 3) := dk_164 0 20 (dk_at dksX2_learns_1 8 rfl rfl)
theorem dX2_learns_34 : decode cX2_learns 34 = .ok (.aload_n 0, 1) := dk_42 (dk_at dksX2_learns_1 11 rfl rfl)
theorem dX2_learns_35 : decode cX2_learns 35 = .ok (.getfield 7, 3) := dk_180 0 7 (dk_at dksX2_learns_1 12 rfl rfl)
theorem dX2_learns_38 : decode cX2_learns 38 = .ok (.bipush 52, 2) := dk_16 52 (dk_at dksX2_learns_1 15 rfl rfl)
theorem dX2_learns_40 : decode cX2_learns 40 = .ok (.iload_n 3, 1) := dk_29 (dk_at dksX2_learns_1 17 rfl rfl)
theorem dX2_learns_41 : decode cX2_learns 41 = .ok (.iadd, 1) := dk_96 (dk_at dksX2_learns_1 18 rfl rfl)
theorem dX2_learns_42 : decode cX2_learns 42 = .ok (.aload_n 0, 1) := dk_42 (dk_at dksX2_learns_1 19 rfl rfl)
theorem dX2_learns_43 : decode cX2_learns 43 = .ok (.iload_n 3, 1) := dk_29 (dk_at dksX2_learns_1 20 rfl rfl)
theorem dX2_learns_44 : decode cX2_learns 44 = .ok (.invokevirtual 101, 3) := dk_182 0 101 (dk_at dksX2_learns_1 21 rfl rfl)
theorem dX2_learns_47 : decode cX2_learns 47 = .ok (.iastore, 1) := dk_79 (dk_at dksX2_learns_2 0 rfl rfl)
theorem dX2_learns_48 : decode cX2_learns 48 = .ok (.iinc 2 1, 3) := dk_132 2 1 (dk_at dksX2_learns_2 1 rfl rfl)
theorem dX2_learns_51 : decode cX2_learns 51 = .ok (.iinc 3 1, 3) := dk_132 3 1 (dk_at dksX2_learns_2 4 rfl rfl)
theorem dX2_learns_54 : decode cX2_learns 54 = .ok (.goto (-50), 3) := dk_167 255 206 (dk_at dksX2_learns_2 7 rfl rfl)
theorem dX2_learns_57 : decode cX2_learns 57 = .ok (.iload_n 2, 1) := dk_28 (dk_at dksX2_learns_2 10 rfl rfl)
theorem dX2_learns_58 : decode cX2_learns 58 = .ok (.ireturn, 1) := dk_172 (dk_at dksX2_learns_2 11 rfl rfl)
abbrev cX2_back : ByteArray := prog_10_method_9_code
def yX2_back : MethodName := ⟨RX2, "back", "(I)I"⟩
def dkwX2_back_0 : List UInt8 := [42, 180, 0, 13, 17, 4, 106, 42, 180, 0, 7, 3, 184, 0, 41, 27, 172]
abbrev dktX2_back_0 : List UInt8 := dkwX2_back_0 ++ []
theorem dksX2_back_0 : cX2_back.data.toList.drop 0 = dktX2_back_0 := by decide +kernel
theorem dX2_back_0 : decode cX2_back 0 = .ok (.aload_n 0, 1) := dk_42 (dk_at dksX2_back_0 0 rfl rfl)
theorem dX2_back_1 : decode cX2_back 1 = .ok (.getfield 13, 3) := dk_180 0 13 (dk_at dksX2_back_0 1 rfl rfl)
theorem dX2_back_4 : decode cX2_back 4 = .ok (.sipush 1130, 3) := dk_17 4 106 (dk_at dksX2_back_0 4 rfl rfl)
theorem dX2_back_7 : decode cX2_back 7 = .ok (.aload_n 0, 1) := dk_42 (dk_at dksX2_back_0 7 rfl rfl)
theorem dX2_back_8 : decode cX2_back 8 = .ok (.getfield 7, 3) := dk_180 0 7 (dk_at dksX2_back_0 8 rfl rfl)
theorem dX2_back_11 : decode cX2_back 11 = .ok (.iconst 0, 1) := dk_3 (dk_at dksX2_back_0 11 rfl rfl)
theorem dX2_back_12 : decode cX2_back 12 = .ok (.invokestatic 41, 3) := dk_184 0 41 (dk_at dksX2_back_0 12 rfl rfl)
theorem dX2_back_15 : decode cX2_back 15 = .ok (.iload_n 1, 1) := dk_27 (dk_at dksX2_back_0 15 rfl rfl)
theorem dX2_back_16 : decode cX2_back 16 = .ok (.ireturn, 1) := dk_172 (dk_at dksX2_back_0 16 rfl rfl)
abbrev cX2_number : ByteArray := prog_10_method_59_code
def yX2_number : MethodName := ⟨RX2, "number", "(I)I"⟩
def dkwX2_number_1 : List UInt8 := [3, 5, 182, 0, 37, 153, 0, 7, 3, 167, 0, 9, 42, 180, 0, 7, 27, 46, 172]
abbrev dktX2_number_1 : List UInt8 := dkwX2_number_1 ++ []
def dkwX2_number_0 : List UInt8 := [42, 182, 1, 0, 154, 0, 28, 42, 27, 133, 9, 20, 1, 3, 184, 0, 170, 154, 0, 7, 4, 167, 0, 4]
abbrev dktX2_number_0 : List UInt8 := dkwX2_number_0 ++ dktX2_number_1
theorem dksX2_number_0 : cX2_number.data.toList.drop 0 = dktX2_number_0 := by decide +kernel
theorem dksX2_number_1 : cX2_number.data.toList.drop 24 = dktX2_number_1 := dk_seg dksX2_number_0 24 rfl rfl
theorem dX2_number_0 : decode cX2_number 0 = .ok (.aload_n 0, 1) := dk_42 (dk_at dksX2_number_0 0 rfl rfl)
theorem dX2_number_1 : decode cX2_number 1 = .ok (.invokevirtual 256, 3) := dk_182 1 0 (dk_at dksX2_number_0 1 rfl rfl)
theorem dX2_number_4 : decode cX2_number 4 = .ok (.ifCond .ne 28, 3) := dk_154 0 28 (dk_at dksX2_number_0 4 rfl rfl)
theorem dX2_number_7 : decode cX2_number 7 = .ok (.aload_n 0, 1) := dk_42 (dk_at dksX2_number_0 7 rfl rfl)
theorem dX2_number_8 : decode cX2_number 8 = .ok (.iload_n 1, 1) := dk_27 (dk_at dksX2_number_0 8 rfl rfl)
theorem dX2_number_9 : decode cX2_number 9 = .ok (.i2l, 1) := dk_133 (dk_at dksX2_number_0 9 rfl rfl)
theorem dX2_number_10 : decode cX2_number 10 = .ok (.lconst 0, 1) := dk_9 (dk_at dksX2_number_0 10 rfl rfl)
theorem dX2_number_11 : decode cX2_number 11 = .ok (.ldc2_w 259, 3) := dk_20 1 3 (dk_at dksX2_number_0 11 rfl rfl)
theorem dX2_number_14 : decode cX2_number 14 = .ok (.invokestatic 170, 3) := dk_184 0 170 (dk_at dksX2_number_0 14 rfl rfl)
theorem dX2_number_17 : decode cX2_number 17 = .ok (.ifCond .ne 7, 3) := dk_154 0 7 (dk_at dksX2_number_0 17 rfl rfl)
theorem dX2_number_20 : decode cX2_number 20 = .ok (.iconst 1, 1) := dk_4 (dk_at dksX2_number_0 20 rfl rfl)
theorem dX2_number_21 : decode cX2_number 21 = .ok (.goto 4, 3) := dk_167 0 4 (dk_at dksX2_number_0 21 rfl rfl)
theorem dX2_number_24 : decode cX2_number 24 = .ok (.iconst 0, 1) := dk_3 (dk_at dksX2_number_1 0 rfl rfl)
theorem dX2_number_25 : decode cX2_number 25 = .ok (.iconst 2, 1) := dk_5 (dk_at dksX2_number_1 1 rfl rfl)
theorem dX2_number_26 : decode cX2_number 26 = .ok (.invokevirtual 37, 3) := dk_182 0 37 (dk_at dksX2_number_1 2 rfl rfl)
theorem dX2_number_29 : decode cX2_number 29 = .ok (.ifCond .eq 7, 3) := dk_153 0 7 (dk_at dksX2_number_1 5 rfl rfl)
theorem dX2_number_32 : decode cX2_number 32 = .ok (.iconst 0, 1) := dk_3 (dk_at dksX2_number_1 8 rfl rfl)
theorem dX2_number_33 : decode cX2_number 33 = .ok (.goto 9, 3) := dk_167 0 9 (dk_at dksX2_number_1 9 rfl rfl)
theorem dX2_number_36 : decode cX2_number 36 = .ok (.aload_n 0, 1) := dk_42 (dk_at dksX2_number_1 12 rfl rfl)
theorem dX2_number_37 : decode cX2_number 37 = .ok (.getfield 7, 3) := dk_180 0 7 (dk_at dksX2_number_1 13 rfl rfl)
theorem dX2_number_40 : decode cX2_number 40 = .ok (.iload_n 1, 1) := dk_27 (dk_at dksX2_number_1 16 rfl rfl)
theorem dX2_number_41 : decode cX2_number 41 = .ok (.iaload, 1) := dk_46 (dk_at dksX2_number_1 17 rfl rfl)
theorem dX2_number_42 : decode cX2_number 42 = .ok (.ireturn, 1) := dk_172 (dk_at dksX2_number_1 18 rfl rfl)
abbrev cX2_notLoaded : ByteArray := prog_10_method_6_code
def yX2_notLoaded : MethodName := ⟨RX2, "notLoaded", "()Z"⟩
def dkwX2_notLoaded_0 : List UInt8 := [42, 3, 181, 0, 30, 42, 42, 180, 0, 33, 154, 0, 7, 4, 167, 0, 4, 3, 4, 182, 0, 37, 172]
abbrev dktX2_notLoaded_0 : List UInt8 := dkwX2_notLoaded_0 ++ []
theorem dksX2_notLoaded_0 : cX2_notLoaded.data.toList.drop 0 = dktX2_notLoaded_0 := by decide +kernel
theorem dX2_notLoaded_0 : decode cX2_notLoaded 0 = .ok (.aload_n 0, 1) := dk_42 (dk_at dksX2_notLoaded_0 0 rfl rfl)
theorem dX2_notLoaded_1 : decode cX2_notLoaded 1 = .ok (.iconst 0, 1) := dk_3 (dk_at dksX2_notLoaded_0 1 rfl rfl)
theorem dX2_notLoaded_2 : decode cX2_notLoaded 2 = .ok (.putfield 30, 3) := dk_181 0 30 (dk_at dksX2_notLoaded_0 2 rfl rfl)
theorem dX2_notLoaded_5 : decode cX2_notLoaded 5 = .ok (.aload_n 0, 1) := dk_42 (dk_at dksX2_notLoaded_0 5 rfl rfl)
theorem dX2_notLoaded_6 : decode cX2_notLoaded 6 = .ok (.aload_n 0, 1) := dk_42 (dk_at dksX2_notLoaded_0 6 rfl rfl)
theorem dX2_notLoaded_7 : decode cX2_notLoaded 7 = .ok (.getfield 33, 3) := dk_180 0 33 (dk_at dksX2_notLoaded_0 7 rfl rfl)
theorem dX2_notLoaded_10 : decode cX2_notLoaded 10 = .ok (.ifCond .ne 7, 3) := dk_154 0 7 (dk_at dksX2_notLoaded_0 10 rfl rfl)
theorem dX2_notLoaded_13 : decode cX2_notLoaded 13 = .ok (.iconst 1, 1) := dk_4 (dk_at dksX2_notLoaded_0 13 rfl rfl)
theorem dX2_notLoaded_14 : decode cX2_notLoaded 14 = .ok (.goto 4, 3) := dk_167 0 4 (dk_at dksX2_notLoaded_0 14 rfl rfl)
theorem dX2_notLoaded_17 : decode cX2_notLoaded 17 = .ok (.iconst 0, 1) := dk_3 (dk_at dksX2_notLoaded_0 17 rfl rfl)
theorem dX2_notLoaded_18 : decode cX2_notLoaded 18 = .ok (.iconst 1, 1) := dk_4 (dk_at dksX2_notLoaded_0 18 rfl rfl)
theorem dX2_notLoaded_19 : decode cX2_notLoaded 19 = .ok (.invokevirtual 37, 3) := dk_182 0 37 (dk_at dksX2_notLoaded_0 19 rfl rfl)
theorem dX2_notLoaded_22 : decode cX2_notLoaded 22 = .ok (.ireturn, 1) := dk_172 (dk_at dksX2_notLoaded_0 22 rfl rfl)
abbrev cX2_count : ByteArray := prog_10_method_61_code
def yX2_count : MethodName := ⟨RX2, "count", "(I)I"⟩
def dkwX2_count_5 : List UInt8 := [180, 0, 7, 16, 20, 46, 172, 42, 180, 0, 7, 27, 16, 7, 96, 46, 172]
abbrev dktX2_count_5 : List UInt8 := dkwX2_count_5 ++ []
def dkwX2_count_4 : List UInt8 := [16, 13, 160, 0, 7, 4, 167, 0, 4, 3, 182, 1, 13, 172, 42, 180, 0, 7, 16, 19, 46, 172, 42]
abbrev dktX2_count_4 : List UInt8 := dkwX2_count_4 ++ dktX2_count_5
def dkwX2_count_3 : List UInt8 := [42, 182, 1, 10, 172, 42, 180, 0, 7, 16, 9, 46, 172, 42, 180, 0, 7, 16, 21, 46, 172, 42, 27]
abbrev dktX2_count_3 : List UInt8 := dkwX2_count_3 ++ dktX2_count_4
def dkwX2_count_2 : List UInt8 := [170, 0, 0, 0, 130, 0, 0, 0, 0, 0, 0, 0, 15, 0, 0, 0, 77, 0, 0, 0, 82, 0, 0, 0, 90, 0, 0, 0, 130, 0, 0, 0, 130, 0, 0, 0, 130, 0, 0, 0, 130, 0, 0, 0, 130, 0, 0, 0, 130, 0, 0, 0, 130, 0, 0, 0, 130, 0, 0, 0, 130, 0, 0, 0, 98, 0, 0, 0, 98, 0, 0, 0, 114, 0, 0, 0, 122]
abbrev dktX2_count_2 : List UInt8 := dkwX2_count_2 ++ dktX2_count_3
def dkwX2_count_1 : List UInt8 := [3, 5, 182, 0, 37, 153, 0, 5, 3, 172, 27]
abbrev dktX2_count_1 : List UInt8 := dkwX2_count_1 ++ dktX2_count_2
def dkwX2_count_0 : List UInt8 := [42, 182, 1, 0, 154, 0, 28, 42, 27, 133, 9, 20, 1, 8, 184, 0, 170, 154, 0, 7, 4, 167, 0, 4]
abbrev dktX2_count_0 : List UInt8 := dkwX2_count_0 ++ dktX2_count_1
theorem dksX2_count_0 : cX2_count.data.toList.drop 0 = dktX2_count_0 := by decide +kernel
theorem dksX2_count_1 : cX2_count.data.toList.drop 24 = dktX2_count_1 := dk_seg dksX2_count_0 24 rfl rfl
theorem dksX2_count_2 : cX2_count.data.toList.drop 35 = dktX2_count_2 := dk_seg dksX2_count_1 11 rfl rfl
theorem dksX2_count_3 : cX2_count.data.toList.drop 112 = dktX2_count_3 := dk_seg dksX2_count_2 77 rfl rfl
theorem dksX2_count_4 : cX2_count.data.toList.drop 135 = dktX2_count_4 := dk_seg dksX2_count_3 23 rfl rfl
theorem dksX2_count_5 : cX2_count.data.toList.drop 158 = dktX2_count_5 := dk_seg dksX2_count_4 23 rfl rfl
theorem dX2_count_0 : decode cX2_count 0 = .ok (.aload_n 0, 1) := dk_42 (dk_at dksX2_count_0 0 rfl rfl)
theorem dX2_count_1 : decode cX2_count 1 = .ok (.invokevirtual 256, 3) := dk_182 1 0 (dk_at dksX2_count_0 1 rfl rfl)
theorem dX2_count_4 : decode cX2_count 4 = .ok (.ifCond .ne 28, 3) := dk_154 0 28 (dk_at dksX2_count_0 4 rfl rfl)
theorem dX2_count_7 : decode cX2_count 7 = .ok (.aload_n 0, 1) := dk_42 (dk_at dksX2_count_0 7 rfl rfl)
theorem dX2_count_8 : decode cX2_count 8 = .ok (.iload_n 1, 1) := dk_27 (dk_at dksX2_count_0 8 rfl rfl)
theorem dX2_count_9 : decode cX2_count 9 = .ok (.i2l, 1) := dk_133 (dk_at dksX2_count_0 9 rfl rfl)
theorem dX2_count_10 : decode cX2_count 10 = .ok (.lconst 0, 1) := dk_9 (dk_at dksX2_count_0 10 rfl rfl)
theorem dX2_count_11 : decode cX2_count 11 = .ok (.ldc2_w 264, 3) := dk_20 1 8 (dk_at dksX2_count_0 11 rfl rfl)
theorem dX2_count_14 : decode cX2_count 14 = .ok (.invokestatic 170, 3) := dk_184 0 170 (dk_at dksX2_count_0 14 rfl rfl)
theorem dX2_count_17 : decode cX2_count 17 = .ok (.ifCond .ne 7, 3) := dk_154 0 7 (dk_at dksX2_count_0 17 rfl rfl)
theorem dX2_count_20 : decode cX2_count 20 = .ok (.iconst 1, 1) := dk_4 (dk_at dksX2_count_0 20 rfl rfl)
theorem dX2_count_21 : decode cX2_count 21 = .ok (.goto 4, 3) := dk_167 0 4 (dk_at dksX2_count_0 21 rfl rfl)
theorem dX2_count_24 : decode cX2_count 24 = .ok (.iconst 0, 1) := dk_3 (dk_at dksX2_count_1 0 rfl rfl)
theorem dX2_count_25 : decode cX2_count 25 = .ok (.iconst 2, 1) := dk_5 (dk_at dksX2_count_1 1 rfl rfl)
theorem dX2_count_26 : decode cX2_count 26 = .ok (.invokevirtual 37, 3) := dk_182 0 37 (dk_at dksX2_count_1 2 rfl rfl)
theorem dX2_count_29 : decode cX2_count 29 = .ok (.ifCond .eq 5, 3) := dk_153 0 5 (dk_at dksX2_count_1 5 rfl rfl)
theorem dX2_count_32 : decode cX2_count 32 = .ok (.iconst 0, 1) := dk_3 (dk_at dksX2_count_1 8 rfl rfl)
theorem dX2_count_33 : decode cX2_count 33 = .ok (.ireturn, 1) := dk_172 (dk_at dksX2_count_1 9 rfl rfl)
theorem dX2_count_34 : decode cX2_count 34 = .ok (.iload_n 1, 1) := dk_27 (dk_at dksX2_count_1 10 rfl rfl)
theorem dX2_count_35 : decode cX2_count 35 = .ok (.tableswitch 130 0 15 #[77, 82, 90, 130, 130, 130, 130, 130, 130, 130, 130, 130, 98, 98, 114, 122], 77) := by decide +kernel
theorem dX2_count_112 : decode cX2_count 112 = .ok (.aload_n 0, 1) := dk_42 (dk_at dksX2_count_3 0 rfl rfl)
theorem dX2_count_113 : decode cX2_count 113 = .ok (.invokevirtual 266, 3) := dk_182 1 10 (dk_at dksX2_count_3 1 rfl rfl)
theorem dX2_count_116 : decode cX2_count 116 = .ok (.ireturn, 1) := dk_172 (dk_at dksX2_count_3 4 rfl rfl)
theorem dX2_count_117 : decode cX2_count 117 = .ok (.aload_n 0, 1) := dk_42 (dk_at dksX2_count_3 5 rfl rfl)
theorem dX2_count_118 : decode cX2_count 118 = .ok (.getfield 7, 3) := dk_180 0 7 (dk_at dksX2_count_3 6 rfl rfl)
theorem dX2_count_121 : decode cX2_count 121 = .ok (.bipush 9, 2) := dk_16 9 (dk_at dksX2_count_3 9 rfl rfl)
theorem dX2_count_123 : decode cX2_count 123 = .ok (.iaload, 1) := dk_46 (dk_at dksX2_count_3 11 rfl rfl)
theorem dX2_count_124 : decode cX2_count 124 = .ok (.ireturn, 1) := dk_172 (dk_at dksX2_count_3 12 rfl rfl)
theorem dX2_count_125 : decode cX2_count 125 = .ok (.aload_n 0, 1) := dk_42 (dk_at dksX2_count_3 13 rfl rfl)
theorem dX2_count_126 : decode cX2_count 126 = .ok (.getfield 7, 3) := dk_180 0 7 (dk_at dksX2_count_3 14 rfl rfl)
theorem dX2_count_129 : decode cX2_count 129 = .ok (.bipush 21, 2) := dk_16 21 (dk_at dksX2_count_3 17 rfl rfl)
theorem dX2_count_131 : decode cX2_count 131 = .ok (.iaload, 1) := dk_46 (dk_at dksX2_count_3 19 rfl rfl)
theorem dX2_count_132 : decode cX2_count 132 = .ok (.ireturn, 1) := dk_172 (dk_at dksX2_count_3 20 rfl rfl)
theorem dX2_count_133 : decode cX2_count 133 = .ok (.aload_n 0, 1) := dk_42 (dk_at dksX2_count_3 21 rfl rfl)
theorem dX2_count_134 : decode cX2_count 134 = .ok (.iload_n 1, 1) := dk_27 (dk_at dksX2_count_3 22 rfl rfl)
theorem dX2_count_135 : decode cX2_count 135 = .ok (.bipush 13, 2) := dk_16 13 (dk_at dksX2_count_4 0 rfl rfl)
theorem dX2_count_137 : decode cX2_count 137 = .ok (.if_icmp .ne 7, 3) := dk_160 0 7 (dk_at dksX2_count_4 2 rfl rfl)
theorem dX2_count_140 : decode cX2_count 140 = .ok (.iconst 1, 1) := dk_4 (dk_at dksX2_count_4 5 rfl rfl)
theorem dX2_count_141 : decode cX2_count 141 = .ok (.goto 4, 3) := dk_167 0 4 (dk_at dksX2_count_4 6 rfl rfl)
theorem dX2_count_144 : decode cX2_count 144 = .ok (.iconst 0, 1) := dk_3 (dk_at dksX2_count_4 9 rfl rfl)
theorem dX2_count_145 : decode cX2_count 145 = .ok (.invokevirtual 269, 3) := dk_182 1 13 (dk_at dksX2_count_4 10 rfl rfl)
theorem dX2_count_148 : decode cX2_count 148 = .ok (.ireturn, 1) := dk_172 (dk_at dksX2_count_4 13 rfl rfl)
theorem dX2_count_149 : decode cX2_count 149 = .ok (.aload_n 0, 1) := dk_42 (dk_at dksX2_count_4 14 rfl rfl)
theorem dX2_count_150 : decode cX2_count 150 = .ok (.getfield 7, 3) := dk_180 0 7 (dk_at dksX2_count_4 15 rfl rfl)
theorem dX2_count_153 : decode cX2_count 153 = .ok (.bipush 19, 2) := dk_16 19 (dk_at dksX2_count_4 18 rfl rfl)
theorem dX2_count_155 : decode cX2_count 155 = .ok (.iaload, 1) := dk_46 (dk_at dksX2_count_4 20 rfl rfl)
theorem dX2_count_156 : decode cX2_count 156 = .ok (.ireturn, 1) := dk_172 (dk_at dksX2_count_4 21 rfl rfl)
theorem dX2_count_157 : decode cX2_count 157 = .ok (.aload_n 0, 1) := dk_42 (dk_at dksX2_count_4 22 rfl rfl)
theorem dX2_count_158 : decode cX2_count 158 = .ok (.getfield 7, 3) := dk_180 0 7 (dk_at dksX2_count_5 0 rfl rfl)
theorem dX2_count_161 : decode cX2_count 161 = .ok (.bipush 20, 2) := dk_16 20 (dk_at dksX2_count_5 3 rfl rfl)
theorem dX2_count_163 : decode cX2_count 163 = .ok (.iaload, 1) := dk_46 (dk_at dksX2_count_5 5 rfl rfl)
theorem dX2_count_164 : decode cX2_count 164 = .ok (.ireturn, 1) := dk_172 (dk_at dksX2_count_5 6 rfl rfl)
theorem dX2_count_165 : decode cX2_count 165 = .ok (.aload_n 0, 1) := dk_42 (dk_at dksX2_count_5 7 rfl rfl)
theorem dX2_count_166 : decode cX2_count 166 = .ok (.getfield 7, 3) := dk_180 0 7 (dk_at dksX2_count_5 8 rfl rfl)
theorem dX2_count_169 : decode cX2_count 169 = .ok (.iload_n 1, 1) := dk_27 (dk_at dksX2_count_5 11 rfl rfl)
theorem dX2_count_170 : decode cX2_count 170 = .ok (.bipush 7, 2) := dk_16 7 (dk_at dksX2_count_5 12 rfl rfl)
theorem dX2_count_172 : decode cX2_count 172 = .ok (.iadd, 1) := dk_96 (dk_at dksX2_count_5 14 rfl rfl)
theorem dX2_count_173 : decode cX2_count 173 = .ok (.iaload, 1) := dk_46 (dk_at dksX2_count_5 15 rfl rfl)
theorem dX2_count_174 : decode cX2_count 174 = .ok (.ireturn, 1) := dk_172 (dk_at dksX2_count_5 16 rfl rfl)
abbrev cX2_together : ByteArray := prog_10_method_13_code
def yX2_together : MethodName := ⟨RX2, "together", "()I"⟩
def dkwX2_together_1 : List UInt8 := [167, 255, 237, 27, 172]
abbrev dktX2_together_1 : List UInt8 := dkwX2_together_1 ++ []
def dkwX2_together_0 : List UInt8 := [3, 60, 3, 61, 28, 42, 182, 0, 45, 162, 0, 17, 27, 42, 28, 182, 0, 49, 96, 60, 132, 2, 1]
abbrev dktX2_together_0 : List UInt8 := dkwX2_together_0 ++ dktX2_together_1
theorem dksX2_together_0 : cX2_together.data.toList.drop 0 = dktX2_together_0 := by decide +kernel
theorem dksX2_together_1 : cX2_together.data.toList.drop 23 = dktX2_together_1 := dk_seg dksX2_together_0 23 rfl rfl
theorem dX2_together_0 : decode cX2_together 0 = .ok (.iconst 0, 1) := dk_3 (dk_at dksX2_together_0 0 rfl rfl)
theorem dX2_together_1 : decode cX2_together 1 = .ok (.istore_n 1, 1) := dk_60 (dk_at dksX2_together_0 1 rfl rfl)
theorem dX2_together_2 : decode cX2_together 2 = .ok (.iconst 0, 1) := dk_3 (dk_at dksX2_together_0 2 rfl rfl)
theorem dX2_together_3 : decode cX2_together 3 = .ok (.istore_n 2, 1) := dk_61 (dk_at dksX2_together_0 3 rfl rfl)
theorem dX2_together_4 : decode cX2_together 4 = .ok (.iload_n 2, 1) := dk_28 (dk_at dksX2_together_0 4 rfl rfl)
theorem dX2_together_5 : decode cX2_together 5 = .ok (.aload_n 0, 1) := dk_42 (dk_at dksX2_together_0 5 rfl rfl)
theorem dX2_together_6 : decode cX2_together 6 = .ok (.invokevirtual 45, 3) := dk_182 0 45 (dk_at dksX2_together_0 6 rfl rfl)
theorem dX2_together_9 : decode cX2_together 9 = .ok (.if_icmp .ge 17, 3) := dk_162 0 17 (dk_at dksX2_together_0 9 rfl rfl)
theorem dX2_together_12 : decode cX2_together 12 = .ok (.iload_n 1, 1) := dk_27 (dk_at dksX2_together_0 12 rfl rfl)
theorem dX2_together_13 : decode cX2_together 13 = .ok (.aload_n 0, 1) := dk_42 (dk_at dksX2_together_0 13 rfl rfl)
theorem dX2_together_14 : decode cX2_together 14 = .ok (.iload_n 2, 1) := dk_28 (dk_at dksX2_together_0 14 rfl rfl)
theorem dX2_together_15 : decode cX2_together 15 = .ok (.invokevirtual 49, 3) := dk_182 0 49 (dk_at dksX2_together_0 15 rfl rfl)
theorem dX2_together_18 : decode cX2_together 18 = .ok (.iadd, 1) := dk_96 (dk_at dksX2_together_0 18 rfl rfl)
theorem dX2_together_19 : decode cX2_together 19 = .ok (.istore_n 1, 1) := dk_60 (dk_at dksX2_together_0 19 rfl rfl)
theorem dX2_together_20 : decode cX2_together 20 = .ok (.iinc 2 1, 3) := dk_132 2 1 (dk_at dksX2_together_0 20 rfl rfl)
theorem dX2_together_23 : decode cX2_together 23 = .ok (.goto (-19), 3) := dk_167 255 237 (dk_at dksX2_together_1 0 rfl rfl)
theorem dX2_together_26 : decode cX2_together 26 = .ok (.iload_n 1, 1) := dk_27 (dk_at dksX2_together_1 3 rfl rfl)
theorem dX2_together_27 : decode cX2_together 27 = .ok (.ireturn, 1) := dk_172 (dk_at dksX2_together_1 4 rfl rfl)
abbrev cX2_stuckOnes : ByteArray := prog_10_method_60_code
def yX2_stuckOnes : MethodName := ⟨RX2, "stuckOnes", "(Z)I"⟩
def dkwX2_stuckOnes_2 : List UInt8 := [96, 61, 132, 3, 1, 167, 255, 209, 28, 172]
abbrev dktX2_stuckOnes_2 : List UInt8 := dkwX2_stuckOnes_2 ++ []
def dkwX2_stuckOnes_1 : List UInt8 := [167, 0, 21, 42, 180, 0, 7, 16, 31, 29, 96, 46, 4, 160, 0, 7, 4, 167, 0, 4, 3, 184, 0, 75]
abbrev dktX2_stuckOnes_1 : List UInt8 := dkwX2_stuckOnes_1 ++ dktX2_stuckOnes_2
def dkwX2_stuckOnes_0 : List UInt8 := [3, 61, 3, 62, 29, 42, 182, 0, 45, 162, 0, 45, 28, 27, 153, 0, 11, 42, 29, 182, 1, 5]
abbrev dktX2_stuckOnes_0 : List UInt8 := dkwX2_stuckOnes_0 ++ dktX2_stuckOnes_1
theorem dksX2_stuckOnes_0 : cX2_stuckOnes.data.toList.drop 0 = dktX2_stuckOnes_0 := by decide +kernel
theorem dksX2_stuckOnes_1 : cX2_stuckOnes.data.toList.drop 22 = dktX2_stuckOnes_1 := dk_seg dksX2_stuckOnes_0 22 rfl rfl
theorem dksX2_stuckOnes_2 : cX2_stuckOnes.data.toList.drop 46 = dktX2_stuckOnes_2 := dk_seg dksX2_stuckOnes_1 24 rfl rfl
theorem dX2_stuckOnes_0 : decode cX2_stuckOnes 0 = .ok (.iconst 0, 1) := dk_3 (dk_at dksX2_stuckOnes_0 0 rfl rfl)
theorem dX2_stuckOnes_1 : decode cX2_stuckOnes 1 = .ok (.istore_n 2, 1) := dk_61 (dk_at dksX2_stuckOnes_0 1 rfl rfl)
theorem dX2_stuckOnes_2 : decode cX2_stuckOnes 2 = .ok (.iconst 0, 1) := dk_3 (dk_at dksX2_stuckOnes_0 2 rfl rfl)
theorem dX2_stuckOnes_3 : decode cX2_stuckOnes 3 = .ok (.istore_n 3, 1) := dk_62 (dk_at dksX2_stuckOnes_0 3 rfl rfl)
theorem dX2_stuckOnes_4 : decode cX2_stuckOnes 4 = .ok (.iload_n 3, 1) := dk_29 (dk_at dksX2_stuckOnes_0 4 rfl rfl)
theorem dX2_stuckOnes_5 : decode cX2_stuckOnes 5 = .ok (.aload_n 0, 1) := dk_42 (dk_at dksX2_stuckOnes_0 5 rfl rfl)
theorem dX2_stuckOnes_6 : decode cX2_stuckOnes 6 = .ok (.invokevirtual 45, 3) := dk_182 0 45 (dk_at dksX2_stuckOnes_0 6 rfl rfl)
theorem dX2_stuckOnes_9 : decode cX2_stuckOnes 9 = .ok (.if_icmp .ge 45, 3) := dk_162 0 45 (dk_at dksX2_stuckOnes_0 9 rfl rfl)
theorem dX2_stuckOnes_12 : decode cX2_stuckOnes 12 = .ok (.iload_n 2, 1) := dk_28 (dk_at dksX2_stuckOnes_0 12 rfl rfl)
theorem dX2_stuckOnes_13 : decode cX2_stuckOnes 13 = .ok (.iload_n 1, 1) := dk_27 (dk_at dksX2_stuckOnes_0 13 rfl rfl)
theorem dX2_stuckOnes_14 : decode cX2_stuckOnes 14 = .ok (.ifCond .eq 11, 3) := dk_153 0 11 (dk_at dksX2_stuckOnes_0 14 rfl rfl)
theorem dX2_stuckOnes_17 : decode cX2_stuckOnes 17 = .ok (.aload_n 0, 1) := dk_42 (dk_at dksX2_stuckOnes_0 17 rfl rfl)
theorem dX2_stuckOnes_18 : decode cX2_stuckOnes 18 = .ok (.iload_n 3, 1) := dk_29 (dk_at dksX2_stuckOnes_0 18 rfl rfl)
theorem dX2_stuckOnes_19 : decode cX2_stuckOnes 19 = .ok (.invokevirtual 261, 3) := dk_182 1 5 (dk_at dksX2_stuckOnes_0 19 rfl rfl)
theorem dX2_stuckOnes_22 : decode cX2_stuckOnes 22 = .ok (.goto 21, 3) := dk_167 0 21 (dk_at dksX2_stuckOnes_1 0 rfl rfl)
theorem dX2_stuckOnes_25 : decode cX2_stuckOnes 25 = .ok (.aload_n 0, 1) := dk_42 (dk_at dksX2_stuckOnes_1 3 rfl rfl)
theorem dX2_stuckOnes_26 : decode cX2_stuckOnes 26 = .ok (.getfield 7, 3) := dk_180 0 7 (dk_at dksX2_stuckOnes_1 4 rfl rfl)
theorem dX2_stuckOnes_29 : decode cX2_stuckOnes 29 = .ok (.bipush 31, 2) := dk_16 31 (dk_at dksX2_stuckOnes_1 7 rfl rfl)
theorem dX2_stuckOnes_31 : decode cX2_stuckOnes 31 = .ok (.iload_n 3, 1) := dk_29 (dk_at dksX2_stuckOnes_1 9 rfl rfl)
theorem dX2_stuckOnes_32 : decode cX2_stuckOnes 32 = .ok (.iadd, 1) := dk_96 (dk_at dksX2_stuckOnes_1 10 rfl rfl)
theorem dX2_stuckOnes_33 : decode cX2_stuckOnes 33 = .ok (.iaload, 1) := dk_46 (dk_at dksX2_stuckOnes_1 11 rfl rfl)
theorem dX2_stuckOnes_34 : decode cX2_stuckOnes 34 = .ok (.iconst 1, 1) := dk_4 (dk_at dksX2_stuckOnes_1 12 rfl rfl)
theorem dX2_stuckOnes_35 : decode cX2_stuckOnes 35 = .ok (.if_icmp .ne 7, 3) := dk_160 0 7 (dk_at dksX2_stuckOnes_1 13 rfl rfl)
theorem dX2_stuckOnes_38 : decode cX2_stuckOnes 38 = .ok (.iconst 1, 1) := dk_4 (dk_at dksX2_stuckOnes_1 16 rfl rfl)
theorem dX2_stuckOnes_39 : decode cX2_stuckOnes 39 = .ok (.goto 4, 3) := dk_167 0 4 (dk_at dksX2_stuckOnes_1 17 rfl rfl)
theorem dX2_stuckOnes_42 : decode cX2_stuckOnes 42 = .ok (.iconst 0, 1) := dk_3 (dk_at dksX2_stuckOnes_1 20 rfl rfl)
theorem dX2_stuckOnes_43 : decode cX2_stuckOnes 43 = .ok (.invokestatic 75, 3) := dk_184 0 75 (dk_at dksX2_stuckOnes_1 21 rfl rfl)
theorem dX2_stuckOnes_46 : decode cX2_stuckOnes 46 = .ok (.iadd, 1) := dk_96 (dk_at dksX2_stuckOnes_2 0 rfl rfl)
theorem dX2_stuckOnes_47 : decode cX2_stuckOnes 47 = .ok (.istore_n 2, 1) := dk_61 (dk_at dksX2_stuckOnes_2 1 rfl rfl)
theorem dX2_stuckOnes_48 : decode cX2_stuckOnes 48 = .ok (.iinc 3 1, 3) := dk_132 3 1 (dk_at dksX2_stuckOnes_2 2 rfl rfl)
theorem dX2_stuckOnes_51 : decode cX2_stuckOnes 51 = .ok (.goto (-47), 3) := dk_167 255 209 (dk_at dksX2_stuckOnes_2 5 rfl rfl)
theorem dX2_stuckOnes_54 : decode cX2_stuckOnes 54 = .ok (.iload_n 2, 1) := dk_28 (dk_at dksX2_stuckOnes_2 8 rfl rfl)
theorem dX2_stuckOnes_55 : decode cX2_stuckOnes 55 = .ok (.ireturn, 1) := dk_172 (dk_at dksX2_stuckOnes_2 9 rfl rfl)
abbrev cX2_isHanging : ByteArray := prog_10_method_22_code
def yX2_isHanging : MethodName := ⟨RX2, "isHanging", "(I)Z"⟩
def dkwX2_isHanging_1 : List UInt8 := [167, 0, 4, 3, 172]
abbrev dktX2_isHanging_1 : List UInt8 := dkwX2_isHanging_1 ++ []
def dkwX2_isHanging_0 : List UInt8 := [42, 180, 0, 7, 16, 31, 27, 96, 46, 4, 160, 0, 16, 42, 27, 182, 0, 53, 2, 159, 0, 7, 4]
abbrev dktX2_isHanging_0 : List UInt8 := dkwX2_isHanging_0 ++ dktX2_isHanging_1
theorem dksX2_isHanging_0 : cX2_isHanging.data.toList.drop 0 = dktX2_isHanging_0 := by decide +kernel
theorem dksX2_isHanging_1 : cX2_isHanging.data.toList.drop 23 = dktX2_isHanging_1 := dk_seg dksX2_isHanging_0 23 rfl rfl
theorem dX2_isHanging_0 : decode cX2_isHanging 0 = .ok (.aload_n 0, 1) := dk_42 (dk_at dksX2_isHanging_0 0 rfl rfl)
theorem dX2_isHanging_1 : decode cX2_isHanging 1 = .ok (.getfield 7, 3) := dk_180 0 7 (dk_at dksX2_isHanging_0 1 rfl rfl)
theorem dX2_isHanging_4 : decode cX2_isHanging 4 = .ok (.bipush 31, 2) := dk_16 31 (dk_at dksX2_isHanging_0 4 rfl rfl)
theorem dX2_isHanging_6 : decode cX2_isHanging 6 = .ok (.iload_n 1, 1) := dk_27 (dk_at dksX2_isHanging_0 6 rfl rfl)
theorem dX2_isHanging_7 : decode cX2_isHanging 7 = .ok (.iadd, 1) := dk_96 (dk_at dksX2_isHanging_0 7 rfl rfl)
theorem dX2_isHanging_8 : decode cX2_isHanging 8 = .ok (.iaload, 1) := dk_46 (dk_at dksX2_isHanging_0 8 rfl rfl)
theorem dX2_isHanging_9 : decode cX2_isHanging 9 = .ok (.iconst 1, 1) := dk_4 (dk_at dksX2_isHanging_0 9 rfl rfl)
theorem dX2_isHanging_10 : decode cX2_isHanging 10 = .ok (.if_icmp .ne 16, 3) := dk_160 0 16 (dk_at dksX2_isHanging_0 10 rfl rfl)
theorem dX2_isHanging_13 : decode cX2_isHanging 13 = .ok (.aload_n 0, 1) := dk_42 (dk_at dksX2_isHanging_0 13 rfl rfl)
theorem dX2_isHanging_14 : decode cX2_isHanging 14 = .ok (.iload_n 1, 1) := dk_27 (dk_at dksX2_isHanging_0 14 rfl rfl)
theorem dX2_isHanging_15 : decode cX2_isHanging 15 = .ok (.invokevirtual 53, 3) := dk_182 0 53 (dk_at dksX2_isHanging_0 15 rfl rfl)
theorem dX2_isHanging_18 : decode cX2_isHanging 18 = .ok (.iconst (-1), 1) := dk_2 (dk_at dksX2_isHanging_0 18 rfl rfl)
theorem dX2_isHanging_19 : decode cX2_isHanging 19 = .ok (.if_icmp .eq 7, 3) := dk_159 0 7 (dk_at dksX2_isHanging_0 19 rfl rfl)
theorem dX2_isHanging_22 : decode cX2_isHanging 22 = .ok (.iconst 1, 1) := dk_4 (dk_at dksX2_isHanging_0 22 rfl rfl)
theorem dX2_isHanging_23 : decode cX2_isHanging 23 = .ok (.goto 4, 3) := dk_167 0 4 (dk_at dksX2_isHanging_1 0 rfl rfl)
theorem dX2_isHanging_26 : decode cX2_isHanging 26 = .ok (.iconst 0, 1) := dk_3 (dk_at dksX2_isHanging_1 3 rfl rfl)
theorem dX2_isHanging_27 : decode cX2_isHanging 27 = .ok (.ireturn, 1) := dk_172 (dk_at dksX2_isHanging_1 4 rfl rfl)
abbrev cX2_height : ByteArray := prog_10_method_64_code
def yX2_height : MethodName := ⟨RX2, "height", "(I)I"⟩
def dkwX2_height_0 : List UInt8 := [42, 27, 182, 1, 19, 153, 0, 7, 3, 167, 0, 8, 42, 27, 182, 0, 49, 172]
abbrev dktX2_height_0 : List UInt8 := dkwX2_height_0 ++ []
theorem dksX2_height_0 : cX2_height.data.toList.drop 0 = dktX2_height_0 := by decide +kernel
theorem dX2_height_0 : decode cX2_height 0 = .ok (.aload_n 0, 1) := dk_42 (dk_at dksX2_height_0 0 rfl rfl)
theorem dX2_height_1 : decode cX2_height 1 = .ok (.iload_n 1, 1) := dk_27 (dk_at dksX2_height_0 1 rfl rfl)
theorem dX2_height_2 : decode cX2_height 2 = .ok (.invokevirtual 275, 3) := dk_182 1 19 (dk_at dksX2_height_0 2 rfl rfl)
theorem dX2_height_5 : decode cX2_height 5 = .ok (.ifCond .eq 7, 3) := dk_153 0 7 (dk_at dksX2_height_0 5 rfl rfl)
theorem dX2_height_8 : decode cX2_height 8 = .ok (.iconst 0, 1) := dk_3 (dk_at dksX2_height_0 8 rfl rfl)
theorem dX2_height_9 : decode cX2_height 9 = .ok (.goto 8, 3) := dk_167 0 8 (dk_at dksX2_height_0 9 rfl rfl)
theorem dX2_height_12 : decode cX2_height 12 = .ok (.aload_n 0, 1) := dk_42 (dk_at dksX2_height_0 12 rfl rfl)
theorem dX2_height_13 : decode cX2_height 13 = .ok (.iload_n 1, 1) := dk_27 (dk_at dksX2_height_0 13 rfl rfl)
theorem dX2_height_14 : decode cX2_height 14 = .ok (.invokevirtual 49, 3) := dk_182 0 49 (dk_at dksX2_height_0 14 rfl rfl)
theorem dX2_height_17 : decode cX2_height 17 = .ok (.ireturn, 1) := dk_172 (dk_at dksX2_height_0 17 rfl rfl)
abbrev cX2_noColumn : ByteArray := prog_10_method_63_code
def yX2_noColumn : MethodName := ⟨RX2, "noColumn", "(I)Z"⟩
def dkwX2_noColumn_1 : List UInt8 := [182, 0, 37, 153, 0, 7, 4, 167, 0, 4, 3, 172]
abbrev dktX2_noColumn_1 : List UInt8 := dkwX2_noColumn_1 ++ []
def dkwX2_noColumn_0 : List UInt8 := [42, 182, 1, 0, 154, 0, 24, 42, 42, 27, 182, 1, 16, 154, 0, 7, 4, 167, 0, 4, 3, 5]
abbrev dktX2_noColumn_0 : List UInt8 := dkwX2_noColumn_0 ++ dktX2_noColumn_1
theorem dksX2_noColumn_0 : cX2_noColumn.data.toList.drop 0 = dktX2_noColumn_0 := by decide +kernel
theorem dksX2_noColumn_1 : cX2_noColumn.data.toList.drop 22 = dktX2_noColumn_1 := dk_seg dksX2_noColumn_0 22 rfl rfl
theorem dX2_noColumn_0 : decode cX2_noColumn 0 = .ok (.aload_n 0, 1) := dk_42 (dk_at dksX2_noColumn_0 0 rfl rfl)
theorem dX2_noColumn_1 : decode cX2_noColumn 1 = .ok (.invokevirtual 256, 3) := dk_182 1 0 (dk_at dksX2_noColumn_0 1 rfl rfl)
theorem dX2_noColumn_4 : decode cX2_noColumn 4 = .ok (.ifCond .ne 24, 3) := dk_154 0 24 (dk_at dksX2_noColumn_0 4 rfl rfl)
theorem dX2_noColumn_7 : decode cX2_noColumn 7 = .ok (.aload_n 0, 1) := dk_42 (dk_at dksX2_noColumn_0 7 rfl rfl)
theorem dX2_noColumn_8 : decode cX2_noColumn 8 = .ok (.aload_n 0, 1) := dk_42 (dk_at dksX2_noColumn_0 8 rfl rfl)
theorem dX2_noColumn_9 : decode cX2_noColumn 9 = .ok (.iload_n 1, 1) := dk_27 (dk_at dksX2_noColumn_0 9 rfl rfl)
theorem dX2_noColumn_10 : decode cX2_noColumn 10 = .ok (.invokevirtual 272, 3) := dk_182 1 16 (dk_at dksX2_noColumn_0 10 rfl rfl)
theorem dX2_noColumn_13 : decode cX2_noColumn 13 = .ok (.ifCond .ne 7, 3) := dk_154 0 7 (dk_at dksX2_noColumn_0 13 rfl rfl)
theorem dX2_noColumn_16 : decode cX2_noColumn 16 = .ok (.iconst 1, 1) := dk_4 (dk_at dksX2_noColumn_0 16 rfl rfl)
theorem dX2_noColumn_17 : decode cX2_noColumn 17 = .ok (.goto 4, 3) := dk_167 0 4 (dk_at dksX2_noColumn_0 17 rfl rfl)
theorem dX2_noColumn_20 : decode cX2_noColumn 20 = .ok (.iconst 0, 1) := dk_3 (dk_at dksX2_noColumn_0 20 rfl rfl)
theorem dX2_noColumn_21 : decode cX2_noColumn 21 = .ok (.iconst 2, 1) := dk_5 (dk_at dksX2_noColumn_0 21 rfl rfl)
theorem dX2_noColumn_22 : decode cX2_noColumn 22 = .ok (.invokevirtual 37, 3) := dk_182 0 37 (dk_at dksX2_noColumn_1 0 rfl rfl)
theorem dX2_noColumn_25 : decode cX2_noColumn 25 = .ok (.ifCond .eq 7, 3) := dk_153 0 7 (dk_at dksX2_noColumn_1 3 rfl rfl)
theorem dX2_noColumn_28 : decode cX2_noColumn 28 = .ok (.iconst 1, 1) := dk_4 (dk_at dksX2_noColumn_1 6 rfl rfl)
theorem dX2_noColumn_29 : decode cX2_noColumn 29 = .ok (.goto 4, 3) := dk_167 0 4 (dk_at dksX2_noColumn_1 7 rfl rfl)
theorem dX2_noColumn_32 : decode cX2_noColumn 32 = .ok (.iconst 0, 1) := dk_3 (dk_at dksX2_noColumn_1 10 rfl rfl)
theorem dX2_noColumn_33 : decode cX2_noColumn 33 = .ok (.ireturn, 1) := dk_172 (dk_at dksX2_noColumn_1 11 rfl rfl)
abbrev cX2_isColumn : ByteArray := prog_10_method_62_code
def yX2_isColumn : MethodName := ⟨RX2, "isColumn", "(I)Z"⟩
def dkwX2_isColumn_0 : List UInt8 := [27, 133, 9, 42, 182, 0, 45, 4, 100, 133, 184, 0, 170, 172]
abbrev dktX2_isColumn_0 : List UInt8 := dkwX2_isColumn_0 ++ []
theorem dksX2_isColumn_0 : cX2_isColumn.data.toList.drop 0 = dktX2_isColumn_0 := by decide +kernel
theorem dX2_isColumn_0 : decode cX2_isColumn 0 = .ok (.iload_n 1, 1) := dk_27 (dk_at dksX2_isColumn_0 0 rfl rfl)
theorem dX2_isColumn_1 : decode cX2_isColumn 1 = .ok (.i2l, 1) := dk_133 (dk_at dksX2_isColumn_0 1 rfl rfl)
theorem dX2_isColumn_2 : decode cX2_isColumn 2 = .ok (.lconst 0, 1) := dk_9 (dk_at dksX2_isColumn_0 2 rfl rfl)
theorem dX2_isColumn_3 : decode cX2_isColumn 3 = .ok (.aload_n 0, 1) := dk_42 (dk_at dksX2_isColumn_0 3 rfl rfl)
theorem dX2_isColumn_4 : decode cX2_isColumn 4 = .ok (.invokevirtual 45, 3) := dk_182 0 45 (dk_at dksX2_isColumn_0 4 rfl rfl)
theorem dX2_isColumn_7 : decode cX2_isColumn 7 = .ok (.iconst 1, 1) := dk_4 (dk_at dksX2_isColumn_0 7 rfl rfl)
theorem dX2_isColumn_8 : decode cX2_isColumn 8 = .ok (.isub, 1) := dk_100 (dk_at dksX2_isColumn_0 8 rfl rfl)
theorem dX2_isColumn_9 : decode cX2_isColumn 9 = .ok (.i2l, 1) := dk_133 (dk_at dksX2_isColumn_0 9 rfl rfl)
theorem dX2_isColumn_10 : decode cX2_isColumn 10 = .ok (.invokestatic 170, 3) := dk_184 0 170 (dk_at dksX2_isColumn_0 10 rfl rfl)
theorem dX2_isColumn_13 : decode cX2_isColumn 13 = .ok (.ireturn, 1) := dk_172 (dk_at dksX2_isColumn_0 13 rfl rfl)
abbrev cX2_isStuck : ByteArray := prog_10_method_65_code
def yX2_isStuck : MethodName := ⟨RX2, "isStuck", "(I)Z"⟩
def dkwX2_isStuck_1 : List UInt8 := [167, 0, 4, 3, 172]
abbrev dktX2_isStuck_1 : List UInt8 := dkwX2_isStuck_1 ++ []
def dkwX2_isStuck_0 : List UInt8 := [42, 27, 182, 1, 19, 154, 0, 20, 42, 180, 0, 7, 16, 31, 27, 96, 46, 4, 160, 0, 7, 4]
abbrev dktX2_isStuck_0 : List UInt8 := dkwX2_isStuck_0 ++ dktX2_isStuck_1
theorem dksX2_isStuck_0 : cX2_isStuck.data.toList.drop 0 = dktX2_isStuck_0 := by decide +kernel
theorem dksX2_isStuck_1 : cX2_isStuck.data.toList.drop 22 = dktX2_isStuck_1 := dk_seg dksX2_isStuck_0 22 rfl rfl
theorem dX2_isStuck_0 : decode cX2_isStuck 0 = .ok (.aload_n 0, 1) := dk_42 (dk_at dksX2_isStuck_0 0 rfl rfl)
theorem dX2_isStuck_1 : decode cX2_isStuck 1 = .ok (.iload_n 1, 1) := dk_27 (dk_at dksX2_isStuck_0 1 rfl rfl)
theorem dX2_isStuck_2 : decode cX2_isStuck 2 = .ok (.invokevirtual 275, 3) := dk_182 1 19 (dk_at dksX2_isStuck_0 2 rfl rfl)
theorem dX2_isStuck_5 : decode cX2_isStuck 5 = .ok (.ifCond .ne 20, 3) := dk_154 0 20 (dk_at dksX2_isStuck_0 5 rfl rfl)
theorem dX2_isStuck_8 : decode cX2_isStuck 8 = .ok (.aload_n 0, 1) := dk_42 (dk_at dksX2_isStuck_0 8 rfl rfl)
theorem dX2_isStuck_9 : decode cX2_isStuck 9 = .ok (.getfield 7, 3) := dk_180 0 7 (dk_at dksX2_isStuck_0 9 rfl rfl)
theorem dX2_isStuck_12 : decode cX2_isStuck 12 = .ok (.bipush 31, 2) := dk_16 31 (dk_at dksX2_isStuck_0 12 rfl rfl)
theorem dX2_isStuck_14 : decode cX2_isStuck 14 = .ok (.iload_n 1, 1) := dk_27 (dk_at dksX2_isStuck_0 14 rfl rfl)
theorem dX2_isStuck_15 : decode cX2_isStuck 15 = .ok (.iadd, 1) := dk_96 (dk_at dksX2_isStuck_0 15 rfl rfl)
theorem dX2_isStuck_16 : decode cX2_isStuck 16 = .ok (.iaload, 1) := dk_46 (dk_at dksX2_isStuck_0 16 rfl rfl)
theorem dX2_isStuck_17 : decode cX2_isStuck 17 = .ok (.iconst 1, 1) := dk_4 (dk_at dksX2_isStuck_0 17 rfl rfl)
theorem dX2_isStuck_18 : decode cX2_isStuck 18 = .ok (.if_icmp .ne 7, 3) := dk_160 0 7 (dk_at dksX2_isStuck_0 18 rfl rfl)
theorem dX2_isStuck_21 : decode cX2_isStuck 21 = .ok (.iconst 1, 1) := dk_4 (dk_at dksX2_isStuck_0 21 rfl rfl)
theorem dX2_isStuck_22 : decode cX2_isStuck 22 = .ok (.goto 4, 3) := dk_167 0 4 (dk_at dksX2_isStuck_1 0 rfl rfl)
theorem dX2_isStuck_25 : decode cX2_isStuck 25 = .ok (.iconst 0, 1) := dk_3 (dk_at dksX2_isStuck_1 3 rfl rfl)
theorem dX2_isStuck_26 : decode cX2_isStuck 26 = .ok (.ireturn, 1) := dk_172 (dk_at dksX2_isStuck_1 4 rfl rfl)
abbrev cX2_hangs : ByteArray := prog_10_method_66_code
def yX2_hangs : MethodName := ⟨RX2, "hangs", "(I)Z"⟩
def dkwX2_hangs_0 : List UInt8 := [42, 27, 182, 1, 19, 154, 0, 15, 42, 27, 182, 1, 5, 153, 0, 7, 4, 167, 0, 4, 3, 172]
abbrev dktX2_hangs_0 : List UInt8 := dkwX2_hangs_0 ++ []
theorem dksX2_hangs_0 : cX2_hangs.data.toList.drop 0 = dktX2_hangs_0 := by decide +kernel
theorem dX2_hangs_0 : decode cX2_hangs 0 = .ok (.aload_n 0, 1) := dk_42 (dk_at dksX2_hangs_0 0 rfl rfl)
theorem dX2_hangs_1 : decode cX2_hangs 1 = .ok (.iload_n 1, 1) := dk_27 (dk_at dksX2_hangs_0 1 rfl rfl)
theorem dX2_hangs_2 : decode cX2_hangs 2 = .ok (.invokevirtual 275, 3) := dk_182 1 19 (dk_at dksX2_hangs_0 2 rfl rfl)
theorem dX2_hangs_5 : decode cX2_hangs 5 = .ok (.ifCond .ne 15, 3) := dk_154 0 15 (dk_at dksX2_hangs_0 5 rfl rfl)
theorem dX2_hangs_8 : decode cX2_hangs 8 = .ok (.aload_n 0, 1) := dk_42 (dk_at dksX2_hangs_0 8 rfl rfl)
theorem dX2_hangs_9 : decode cX2_hangs 9 = .ok (.iload_n 1, 1) := dk_27 (dk_at dksX2_hangs_0 9 rfl rfl)
theorem dX2_hangs_10 : decode cX2_hangs 10 = .ok (.invokevirtual 261, 3) := dk_182 1 5 (dk_at dksX2_hangs_0 10 rfl rfl)
theorem dX2_hangs_13 : decode cX2_hangs 13 = .ok (.ifCond .eq 7, 3) := dk_153 0 7 (dk_at dksX2_hangs_0 13 rfl rfl)
theorem dX2_hangs_16 : decode cX2_hangs 16 = .ok (.iconst 1, 1) := dk_4 (dk_at dksX2_hangs_0 16 rfl rfl)
theorem dX2_hangs_17 : decode cX2_hangs 17 = .ok (.goto 4, 3) := dk_167 0 4 (dk_at dksX2_hangs_0 17 rfl rfl)
theorem dX2_hangs_20 : decode cX2_hangs 20 = .ok (.iconst 0, 1) := dk_3 (dk_at dksX2_hangs_0 20 rfl rfl)
theorem dX2_hangs_21 : decode cX2_hangs 21 = .ok (.ireturn, 1) := dk_172 (dk_at dksX2_hangs_0 21 rfl rfl)
abbrev cX2_highest : ByteArray := prog_10_method_67_code
def yX2_highest : MethodName := ⟨RX2, "highest", "(Z)I"⟩
def dkwX2_highest_2 : List UInt8 := [42, 28, 182, 0, 49, 164, 0, 7, 29, 167, 0, 4, 28, 61, 132, 3, 1, 167, 255, 206, 28, 172]
abbrev dktX2_highest_2 : List UInt8 := dkwX2_highest_2 ++ []
def dkwX2_highest_1 : List UInt8 := [153, 0, 19, 42, 29, 182, 0, 49, 42, 28, 182, 0, 49, 162, 0, 23, 167, 0, 16, 42, 29, 182, 0, 49]
abbrev dktX2_highest_1 : List UInt8 := dkwX2_highest_1 ++ dktX2_highest_2
def dkwX2_highest_0 : List UInt8 := [42, 182, 1, 0, 153, 0, 5, 3, 172, 3, 61, 4, 62, 29, 42, 182, 0, 45, 162, 0, 48, 27]
abbrev dktX2_highest_0 : List UInt8 := dkwX2_highest_0 ++ dktX2_highest_1
theorem dksX2_highest_0 : cX2_highest.data.toList.drop 0 = dktX2_highest_0 := by decide +kernel
theorem dksX2_highest_1 : cX2_highest.data.toList.drop 22 = dktX2_highest_1 := dk_seg dksX2_highest_0 22 rfl rfl
theorem dksX2_highest_2 : cX2_highest.data.toList.drop 46 = dktX2_highest_2 := dk_seg dksX2_highest_1 24 rfl rfl
theorem dX2_highest_0 : decode cX2_highest 0 = .ok (.aload_n 0, 1) := dk_42 (dk_at dksX2_highest_0 0 rfl rfl)
theorem dX2_highest_1 : decode cX2_highest 1 = .ok (.invokevirtual 256, 3) := dk_182 1 0 (dk_at dksX2_highest_0 1 rfl rfl)
theorem dX2_highest_4 : decode cX2_highest 4 = .ok (.ifCond .eq 5, 3) := dk_153 0 5 (dk_at dksX2_highest_0 4 rfl rfl)
theorem dX2_highest_7 : decode cX2_highest 7 = .ok (.iconst 0, 1) := dk_3 (dk_at dksX2_highest_0 7 rfl rfl)
theorem dX2_highest_8 : decode cX2_highest 8 = .ok (.ireturn, 1) := dk_172 (dk_at dksX2_highest_0 8 rfl rfl)
theorem dX2_highest_9 : decode cX2_highest 9 = .ok (.iconst 0, 1) := dk_3 (dk_at dksX2_highest_0 9 rfl rfl)
theorem dX2_highest_10 : decode cX2_highest 10 = .ok (.istore_n 2, 1) := dk_61 (dk_at dksX2_highest_0 10 rfl rfl)
theorem dX2_highest_11 : decode cX2_highest 11 = .ok (.iconst 1, 1) := dk_4 (dk_at dksX2_highest_0 11 rfl rfl)
theorem dX2_highest_12 : decode cX2_highest 12 = .ok (.istore_n 3, 1) := dk_62 (dk_at dksX2_highest_0 12 rfl rfl)
theorem dX2_highest_13 : decode cX2_highest 13 = .ok (.iload_n 3, 1) := dk_29 (dk_at dksX2_highest_0 13 rfl rfl)
theorem dX2_highest_14 : decode cX2_highest 14 = .ok (.aload_n 0, 1) := dk_42 (dk_at dksX2_highest_0 14 rfl rfl)
theorem dX2_highest_15 : decode cX2_highest 15 = .ok (.invokevirtual 45, 3) := dk_182 0 45 (dk_at dksX2_highest_0 15 rfl rfl)
theorem dX2_highest_18 : decode cX2_highest 18 = .ok (.if_icmp .ge 48, 3) := dk_162 0 48 (dk_at dksX2_highest_0 18 rfl rfl)
theorem dX2_highest_21 : decode cX2_highest 21 = .ok (.iload_n 1, 1) := dk_27 (dk_at dksX2_highest_0 21 rfl rfl)
theorem dX2_highest_22 : decode cX2_highest 22 = .ok (.ifCond .eq 19, 3) := dk_153 0 19 (dk_at dksX2_highest_1 0 rfl rfl)
theorem dX2_highest_25 : decode cX2_highest 25 = .ok (.aload_n 0, 1) := dk_42 (dk_at dksX2_highest_1 3 rfl rfl)
theorem dX2_highest_26 : decode cX2_highest 26 = .ok (.iload_n 3, 1) := dk_29 (dk_at dksX2_highest_1 4 rfl rfl)
theorem dX2_highest_27 : decode cX2_highest 27 = .ok (.invokevirtual 49, 3) := dk_182 0 49 (dk_at dksX2_highest_1 5 rfl rfl)
theorem dX2_highest_30 : decode cX2_highest 30 = .ok (.aload_n 0, 1) := dk_42 (dk_at dksX2_highest_1 8 rfl rfl)
theorem dX2_highest_31 : decode cX2_highest 31 = .ok (.iload_n 2, 1) := dk_28 (dk_at dksX2_highest_1 9 rfl rfl)
theorem dX2_highest_32 : decode cX2_highest 32 = .ok (.invokevirtual 49, 3) := dk_182 0 49 (dk_at dksX2_highest_1 10 rfl rfl)
theorem dX2_highest_35 : decode cX2_highest 35 = .ok (.if_icmp .ge 23, 3) := dk_162 0 23 (dk_at dksX2_highest_1 13 rfl rfl)
theorem dX2_highest_38 : decode cX2_highest 38 = .ok (.goto 16, 3) := dk_167 0 16 (dk_at dksX2_highest_1 16 rfl rfl)
theorem dX2_highest_41 : decode cX2_highest 41 = .ok (.aload_n 0, 1) := dk_42 (dk_at dksX2_highest_1 19 rfl rfl)
theorem dX2_highest_42 : decode cX2_highest 42 = .ok (.iload_n 3, 1) := dk_29 (dk_at dksX2_highest_1 20 rfl rfl)
theorem dX2_highest_43 : decode cX2_highest 43 = .ok (.invokevirtual 49, 3) := dk_182 0 49 (dk_at dksX2_highest_1 21 rfl rfl)
theorem dX2_highest_46 : decode cX2_highest 46 = .ok (.aload_n 0, 1) := dk_42 (dk_at dksX2_highest_2 0 rfl rfl)
theorem dX2_highest_47 : decode cX2_highest 47 = .ok (.iload_n 2, 1) := dk_28 (dk_at dksX2_highest_2 1 rfl rfl)
theorem dX2_highest_48 : decode cX2_highest 48 = .ok (.invokevirtual 49, 3) := dk_182 0 49 (dk_at dksX2_highest_2 2 rfl rfl)
theorem dX2_highest_51 : decode cX2_highest 51 = .ok (.if_icmp .le 7, 3) := dk_164 0 7 (dk_at dksX2_highest_2 5 rfl rfl)
theorem dX2_highest_54 : decode cX2_highest 54 = .ok (.iload_n 3, 1) := dk_29 (dk_at dksX2_highest_2 8 rfl rfl)
theorem dX2_highest_55 : decode cX2_highest 55 = .ok (.goto 4, 3) := dk_167 0 4 (dk_at dksX2_highest_2 9 rfl rfl)
theorem dX2_highest_58 : decode cX2_highest 58 = .ok (.iload_n 2, 1) := dk_28 (dk_at dksX2_highest_2 12 rfl rfl)
theorem dX2_highest_59 : decode cX2_highest 59 = .ok (.istore_n 2, 1) := dk_61 (dk_at dksX2_highest_2 13 rfl rfl)
theorem dX2_highest_60 : decode cX2_highest 60 = .ok (.iinc 3 1, 3) := dk_132 3 1 (dk_at dksX2_highest_2 14 rfl rfl)
theorem dX2_highest_63 : decode cX2_highest 63 = .ok (.goto (-50), 3) := dk_167 255 206 (dk_at dksX2_highest_2 17 rfl rfl)
theorem dX2_highest_66 : decode cX2_highest 66 = .ok (.iload_n 2, 1) := dk_28 (dk_at dksX2_highest_2 20 rfl rfl)
theorem dX2_highest_67 : decode cX2_highest 67 = .ok (.ireturn, 1) := dk_172 (dk_at dksX2_highest_2 21 rfl rfl)
abbrev cX2_steepest : ByteArray := prog_10_method_68_code
def yX2_steepest : MethodName := ⟨RX2, "steepest", "()I"⟩
def dkwX2_steepest_2 : List UInt8 := [27, 172]
abbrev dktX2_steepest_2 : List UInt8 := dkwX2_steepest_2 ++ []
def dkwX2_steepest_1 : List UInt8 := [182, 0, 49, 42, 28, 4, 100, 182, 0, 49, 100, 184, 0, 113, 184, 0, 116, 60, 132, 2, 1, 167, 255, 224]
abbrev dktX2_steepest_1 : List UInt8 := dkwX2_steepest_1 ++ dktX2_steepest_2
def dkwX2_steepest_0 : List UInt8 := [42, 182, 1, 0, 153, 0, 5, 3, 172, 3, 60, 4, 61, 28, 42, 182, 0, 45, 162, 0, 30, 27, 42, 28]
abbrev dktX2_steepest_0 : List UInt8 := dkwX2_steepest_0 ++ dktX2_steepest_1
theorem dksX2_steepest_0 : cX2_steepest.data.toList.drop 0 = dktX2_steepest_0 := by decide +kernel
theorem dksX2_steepest_1 : cX2_steepest.data.toList.drop 24 = dktX2_steepest_1 := dk_seg dksX2_steepest_0 24 rfl rfl
theorem dksX2_steepest_2 : cX2_steepest.data.toList.drop 48 = dktX2_steepest_2 := dk_seg dksX2_steepest_1 24 rfl rfl
theorem dX2_steepest_0 : decode cX2_steepest 0 = .ok (.aload_n 0, 1) := dk_42 (dk_at dksX2_steepest_0 0 rfl rfl)
theorem dX2_steepest_1 : decode cX2_steepest 1 = .ok (.invokevirtual 256, 3) := dk_182 1 0 (dk_at dksX2_steepest_0 1 rfl rfl)
theorem dX2_steepest_4 : decode cX2_steepest 4 = .ok (.ifCond .eq 5, 3) := dk_153 0 5 (dk_at dksX2_steepest_0 4 rfl rfl)
theorem dX2_steepest_7 : decode cX2_steepest 7 = .ok (.iconst 0, 1) := dk_3 (dk_at dksX2_steepest_0 7 rfl rfl)
theorem dX2_steepest_8 : decode cX2_steepest 8 = .ok (.ireturn, 1) := dk_172 (dk_at dksX2_steepest_0 8 rfl rfl)
theorem dX2_steepest_9 : decode cX2_steepest 9 = .ok (.iconst 0, 1) := dk_3 (dk_at dksX2_steepest_0 9 rfl rfl)
theorem dX2_steepest_10 : decode cX2_steepest 10 = .ok (.istore_n 1, 1) := dk_60 (dk_at dksX2_steepest_0 10 rfl rfl)
theorem dX2_steepest_11 : decode cX2_steepest 11 = .ok (.iconst 1, 1) := dk_4 (dk_at dksX2_steepest_0 11 rfl rfl)
theorem dX2_steepest_12 : decode cX2_steepest 12 = .ok (.istore_n 2, 1) := dk_61 (dk_at dksX2_steepest_0 12 rfl rfl)
theorem dX2_steepest_13 : decode cX2_steepest 13 = .ok (.iload_n 2, 1) := dk_28 (dk_at dksX2_steepest_0 13 rfl rfl)
theorem dX2_steepest_14 : decode cX2_steepest 14 = .ok (.aload_n 0, 1) := dk_42 (dk_at dksX2_steepest_0 14 rfl rfl)
theorem dX2_steepest_15 : decode cX2_steepest 15 = .ok (.invokevirtual 45, 3) := dk_182 0 45 (dk_at dksX2_steepest_0 15 rfl rfl)
theorem dX2_steepest_18 : decode cX2_steepest 18 = .ok (.if_icmp .ge 30, 3) := dk_162 0 30 (dk_at dksX2_steepest_0 18 rfl rfl)
theorem dX2_steepest_21 : decode cX2_steepest 21 = .ok (.iload_n 1, 1) := dk_27 (dk_at dksX2_steepest_0 21 rfl rfl)
theorem dX2_steepest_22 : decode cX2_steepest 22 = .ok (.aload_n 0, 1) := dk_42 (dk_at dksX2_steepest_0 22 rfl rfl)
theorem dX2_steepest_23 : decode cX2_steepest 23 = .ok (.iload_n 2, 1) := dk_28 (dk_at dksX2_steepest_0 23 rfl rfl)
theorem dX2_steepest_24 : decode cX2_steepest 24 = .ok (.invokevirtual 49, 3) := dk_182 0 49 (dk_at dksX2_steepest_1 0 rfl rfl)
theorem dX2_steepest_27 : decode cX2_steepest 27 = .ok (.aload_n 0, 1) := dk_42 (dk_at dksX2_steepest_1 3 rfl rfl)
theorem dX2_steepest_28 : decode cX2_steepest 28 = .ok (.iload_n 2, 1) := dk_28 (dk_at dksX2_steepest_1 4 rfl rfl)
theorem dX2_steepest_29 : decode cX2_steepest 29 = .ok (.iconst 1, 1) := dk_4 (dk_at dksX2_steepest_1 5 rfl rfl)
theorem dX2_steepest_30 : decode cX2_steepest 30 = .ok (.isub, 1) := dk_100 (dk_at dksX2_steepest_1 6 rfl rfl)
theorem dX2_steepest_31 : decode cX2_steepest 31 = .ok (.invokevirtual 49, 3) := dk_182 0 49 (dk_at dksX2_steepest_1 7 rfl rfl)
theorem dX2_steepest_34 : decode cX2_steepest 34 = .ok (.isub, 1) := dk_100 (dk_at dksX2_steepest_1 10 rfl rfl)
theorem dX2_steepest_35 : decode cX2_steepest 35 = .ok (.invokestatic 113, 3) := dk_184 0 113 (dk_at dksX2_steepest_1 11 rfl rfl)
theorem dX2_steepest_38 : decode cX2_steepest 38 = .ok (.invokestatic 116, 3) := dk_184 0 116 (dk_at dksX2_steepest_1 14 rfl rfl)
theorem dX2_steepest_41 : decode cX2_steepest 41 = .ok (.istore_n 1, 1) := dk_60 (dk_at dksX2_steepest_1 17 rfl rfl)
theorem dX2_steepest_42 : decode cX2_steepest 42 = .ok (.iinc 2 1, 3) := dk_132 2 1 (dk_at dksX2_steepest_1 18 rfl rfl)
theorem dX2_steepest_45 : decode cX2_steepest 45 = .ok (.goto (-32), 3) := dk_167 255 224 (dk_at dksX2_steepest_1 21 rfl rfl)
theorem dX2_steepest_48 : decode cX2_steepest 48 = .ok (.iload_n 1, 1) := dk_27 (dk_at dksX2_steepest_2 0 rfl rfl)
theorem dX2_steepest_49 : decode cX2_steepest 49 = .ok (.ireturn, 1) := dk_172 (dk_at dksX2_steepest_2 1 rfl rfl)
abbrev cX2_peak : ByteArray := prog_10_method_69_code
def yX2_peak : MethodName := ⟨RX2, "peak", "(II)I"⟩
def dkwX2_peak_2 : List UInt8 := [163, 0, 20, 29, 42, 21, 4, 182, 0, 49, 184, 0, 116, 62, 132, 4, 1, 167, 255, 232, 29, 172]
abbrev dktX2_peak_2 : List UInt8 := dkwX2_peak_2 ++ []
def dkwX2_peak_1 : List UInt8 := [182, 0, 37, 153, 0, 5, 3, 172, 3, 62, 27, 28, 184, 0, 63, 54, 4, 21, 4, 27, 28, 184, 0, 116]
abbrev dktX2_peak_1 : List UInt8 := dkwX2_peak_1 ++ dktX2_peak_2
def dkwX2_peak_0 : List UInt8 := [42, 27, 182, 1, 19, 154, 0, 24, 42, 42, 28, 182, 1, 16, 154, 0, 7, 4, 167, 0, 4, 3, 5]
abbrev dktX2_peak_0 : List UInt8 := dkwX2_peak_0 ++ dktX2_peak_1
theorem dksX2_peak_0 : cX2_peak.data.toList.drop 0 = dktX2_peak_0 := by decide +kernel
theorem dksX2_peak_1 : cX2_peak.data.toList.drop 23 = dktX2_peak_1 := dk_seg dksX2_peak_0 23 rfl rfl
theorem dksX2_peak_2 : cX2_peak.data.toList.drop 47 = dktX2_peak_2 := dk_seg dksX2_peak_1 24 rfl rfl
theorem dX2_peak_0 : decode cX2_peak 0 = .ok (.aload_n 0, 1) := dk_42 (dk_at dksX2_peak_0 0 rfl rfl)
theorem dX2_peak_1 : decode cX2_peak 1 = .ok (.iload_n 1, 1) := dk_27 (dk_at dksX2_peak_0 1 rfl rfl)
theorem dX2_peak_2 : decode cX2_peak 2 = .ok (.invokevirtual 275, 3) := dk_182 1 19 (dk_at dksX2_peak_0 2 rfl rfl)
theorem dX2_peak_5 : decode cX2_peak 5 = .ok (.ifCond .ne 24, 3) := dk_154 0 24 (dk_at dksX2_peak_0 5 rfl rfl)
theorem dX2_peak_8 : decode cX2_peak 8 = .ok (.aload_n 0, 1) := dk_42 (dk_at dksX2_peak_0 8 rfl rfl)
theorem dX2_peak_9 : decode cX2_peak 9 = .ok (.aload_n 0, 1) := dk_42 (dk_at dksX2_peak_0 9 rfl rfl)
theorem dX2_peak_10 : decode cX2_peak 10 = .ok (.iload_n 2, 1) := dk_28 (dk_at dksX2_peak_0 10 rfl rfl)
theorem dX2_peak_11 : decode cX2_peak 11 = .ok (.invokevirtual 272, 3) := dk_182 1 16 (dk_at dksX2_peak_0 11 rfl rfl)
theorem dX2_peak_14 : decode cX2_peak 14 = .ok (.ifCond .ne 7, 3) := dk_154 0 7 (dk_at dksX2_peak_0 14 rfl rfl)
theorem dX2_peak_17 : decode cX2_peak 17 = .ok (.iconst 1, 1) := dk_4 (dk_at dksX2_peak_0 17 rfl rfl)
theorem dX2_peak_18 : decode cX2_peak 18 = .ok (.goto 4, 3) := dk_167 0 4 (dk_at dksX2_peak_0 18 rfl rfl)
theorem dX2_peak_21 : decode cX2_peak 21 = .ok (.iconst 0, 1) := dk_3 (dk_at dksX2_peak_0 21 rfl rfl)
theorem dX2_peak_22 : decode cX2_peak 22 = .ok (.iconst 2, 1) := dk_5 (dk_at dksX2_peak_0 22 rfl rfl)
theorem dX2_peak_23 : decode cX2_peak 23 = .ok (.invokevirtual 37, 3) := dk_182 0 37 (dk_at dksX2_peak_1 0 rfl rfl)
theorem dX2_peak_26 : decode cX2_peak 26 = .ok (.ifCond .eq 5, 3) := dk_153 0 5 (dk_at dksX2_peak_1 3 rfl rfl)
theorem dX2_peak_29 : decode cX2_peak 29 = .ok (.iconst 0, 1) := dk_3 (dk_at dksX2_peak_1 6 rfl rfl)
theorem dX2_peak_30 : decode cX2_peak 30 = .ok (.ireturn, 1) := dk_172 (dk_at dksX2_peak_1 7 rfl rfl)
theorem dX2_peak_31 : decode cX2_peak 31 = .ok (.iconst 0, 1) := dk_3 (dk_at dksX2_peak_1 8 rfl rfl)
theorem dX2_peak_32 : decode cX2_peak 32 = .ok (.istore_n 3, 1) := dk_62 (dk_at dksX2_peak_1 9 rfl rfl)
theorem dX2_peak_33 : decode cX2_peak 33 = .ok (.iload_n 1, 1) := dk_27 (dk_at dksX2_peak_1 10 rfl rfl)
theorem dX2_peak_34 : decode cX2_peak 34 = .ok (.iload_n 2, 1) := dk_28 (dk_at dksX2_peak_1 11 rfl rfl)
theorem dX2_peak_35 : decode cX2_peak 35 = .ok (.invokestatic 63, 3) := dk_184 0 63 (dk_at dksX2_peak_1 12 rfl rfl)
theorem dX2_peak_38 : decode cX2_peak 38 = .ok (.istore 4, 2) := dk_54 4 (dk_at dksX2_peak_1 15 rfl rfl)
theorem dX2_peak_40 : decode cX2_peak 40 = .ok (.iload 4, 2) := dk_21 4 (dk_at dksX2_peak_1 17 rfl rfl)
theorem dX2_peak_42 : decode cX2_peak 42 = .ok (.iload_n 1, 1) := dk_27 (dk_at dksX2_peak_1 19 rfl rfl)
theorem dX2_peak_43 : decode cX2_peak 43 = .ok (.iload_n 2, 1) := dk_28 (dk_at dksX2_peak_1 20 rfl rfl)
theorem dX2_peak_44 : decode cX2_peak 44 = .ok (.invokestatic 116, 3) := dk_184 0 116 (dk_at dksX2_peak_1 21 rfl rfl)
theorem dX2_peak_47 : decode cX2_peak 47 = .ok (.if_icmp .gt 20, 3) := dk_163 0 20 (dk_at dksX2_peak_2 0 rfl rfl)
theorem dX2_peak_50 : decode cX2_peak 50 = .ok (.iload_n 3, 1) := dk_29 (dk_at dksX2_peak_2 3 rfl rfl)
theorem dX2_peak_51 : decode cX2_peak 51 = .ok (.aload_n 0, 1) := dk_42 (dk_at dksX2_peak_2 4 rfl rfl)
theorem dX2_peak_52 : decode cX2_peak 52 = .ok (.iload 4, 2) := dk_21 4 (dk_at dksX2_peak_2 5 rfl rfl)
theorem dX2_peak_54 : decode cX2_peak 54 = .ok (.invokevirtual 49, 3) := dk_182 0 49 (dk_at dksX2_peak_2 7 rfl rfl)
theorem dX2_peak_57 : decode cX2_peak 57 = .ok (.invokestatic 116, 3) := dk_184 0 116 (dk_at dksX2_peak_2 10 rfl rfl)
theorem dX2_peak_60 : decode cX2_peak 60 = .ok (.istore_n 3, 1) := dk_62 (dk_at dksX2_peak_2 13 rfl rfl)
theorem dX2_peak_61 : decode cX2_peak 61 = .ok (.iinc 4 1, 3) := dk_132 4 1 (dk_at dksX2_peak_2 14 rfl rfl)
theorem dX2_peak_64 : decode cX2_peak 64 = .ok (.goto (-24), 3) := dk_167 255 232 (dk_at dksX2_peak_2 17 rfl rfl)
theorem dX2_peak_67 : decode cX2_peak 67 = .ok (.iload_n 3, 1) := dk_29 (dk_at dksX2_peak_2 20 rfl rfl)
theorem dX2_peak_68 : decode cX2_peak 68 = .ok (.ireturn, 1) := dk_172 (dk_at dksX2_peak_2 21 rfl rfl)
abbrev cX2_slideTo : ByteArray := prog_10_method_70_code
def yX2_slideTo : MethodName := ⟨RX2, "slideTo", "(I)I"⟩
def dkwX2_slideTo_0 : List UInt8 := [42, 27, 182, 1, 19, 153, 0, 7, 3, 167, 0, 8, 42, 27, 182, 0, 53, 172]
abbrev dktX2_slideTo_0 : List UInt8 := dkwX2_slideTo_0 ++ []
theorem dksX2_slideTo_0 : cX2_slideTo.data.toList.drop 0 = dktX2_slideTo_0 := by decide +kernel
theorem dX2_slideTo_0 : decode cX2_slideTo 0 = .ok (.aload_n 0, 1) := dk_42 (dk_at dksX2_slideTo_0 0 rfl rfl)
theorem dX2_slideTo_1 : decode cX2_slideTo 1 = .ok (.iload_n 1, 1) := dk_27 (dk_at dksX2_slideTo_0 1 rfl rfl)
theorem dX2_slideTo_2 : decode cX2_slideTo 2 = .ok (.invokevirtual 275, 3) := dk_182 1 19 (dk_at dksX2_slideTo_0 2 rfl rfl)
theorem dX2_slideTo_5 : decode cX2_slideTo 5 = .ok (.ifCond .eq 7, 3) := dk_153 0 7 (dk_at dksX2_slideTo_0 5 rfl rfl)
theorem dX2_slideTo_8 : decode cX2_slideTo 8 = .ok (.iconst 0, 1) := dk_3 (dk_at dksX2_slideTo_0 8 rfl rfl)
theorem dX2_slideTo_9 : decode cX2_slideTo 9 = .ok (.goto 8, 3) := dk_167 0 8 (dk_at dksX2_slideTo_0 9 rfl rfl)
theorem dX2_slideTo_12 : decode cX2_slideTo 12 = .ok (.aload_n 0, 1) := dk_42 (dk_at dksX2_slideTo_0 12 rfl rfl)
theorem dX2_slideTo_13 : decode cX2_slideTo 13 = .ok (.iload_n 1, 1) := dk_27 (dk_at dksX2_slideTo_0 13 rfl rfl)
theorem dX2_slideTo_14 : decode cX2_slideTo 14 = .ok (.invokevirtual 53, 3) := dk_182 0 53 (dk_at dksX2_slideTo_0 14 rfl rfl)
theorem dX2_slideTo_17 : decode cX2_slideTo 17 = .ok (.ireturn, 1) := dk_172 (dk_at dksX2_slideTo_0 17 rfl rfl)
abbrev cX2_gap : ByteArray := prog_10_method_71_code
def yX2_gap : MethodName := ⟨RX2, "gap", "()I"⟩
def dkwX2_gap_3 : List UInt8 := [172]
abbrev dktX2_gap_3 : List UInt8 := dkwX2_gap_3 ++ []
def dkwX2_gap_2 : List UInt8 := [182, 0, 45, 162, 0, 20, 27, 42, 28, 182, 0, 56, 184, 0, 75, 96, 60, 132, 2, 1, 167, 255, 234, 27]
abbrev dktX2_gap_2 : List UInt8 := dkwX2_gap_2 ++ dktX2_gap_3
def dkwX2_gap_1 : List UInt8 := [180, 0, 7, 16, 14, 46, 100, 42, 180, 0, 7, 16, 16, 46, 96, 184, 0, 113, 60, 3, 61, 28, 42]
abbrev dktX2_gap_1 : List UInt8 := dkwX2_gap_1 ++ dktX2_gap_2
def dkwX2_gap_0 : List UInt8 := [42, 182, 1, 0, 153, 0, 5, 3, 172, 42, 182, 1, 10, 42, 180, 0, 7, 16, 19, 46, 100, 42]
abbrev dktX2_gap_0 : List UInt8 := dkwX2_gap_0 ++ dktX2_gap_1
theorem dksX2_gap_0 : cX2_gap.data.toList.drop 0 = dktX2_gap_0 := by decide +kernel
theorem dksX2_gap_1 : cX2_gap.data.toList.drop 22 = dktX2_gap_1 := dk_seg dksX2_gap_0 22 rfl rfl
theorem dksX2_gap_2 : cX2_gap.data.toList.drop 45 = dktX2_gap_2 := dk_seg dksX2_gap_1 23 rfl rfl
theorem dksX2_gap_3 : cX2_gap.data.toList.drop 69 = dktX2_gap_3 := dk_seg dksX2_gap_2 24 rfl rfl
theorem dX2_gap_0 : decode cX2_gap 0 = .ok (.aload_n 0, 1) := dk_42 (dk_at dksX2_gap_0 0 rfl rfl)
theorem dX2_gap_1 : decode cX2_gap 1 = .ok (.invokevirtual 256, 3) := dk_182 1 0 (dk_at dksX2_gap_0 1 rfl rfl)
theorem dX2_gap_4 : decode cX2_gap 4 = .ok (.ifCond .eq 5, 3) := dk_153 0 5 (dk_at dksX2_gap_0 4 rfl rfl)
theorem dX2_gap_7 : decode cX2_gap 7 = .ok (.iconst 0, 1) := dk_3 (dk_at dksX2_gap_0 7 rfl rfl)
theorem dX2_gap_8 : decode cX2_gap 8 = .ok (.ireturn, 1) := dk_172 (dk_at dksX2_gap_0 8 rfl rfl)
theorem dX2_gap_9 : decode cX2_gap 9 = .ok (.aload_n 0, 1) := dk_42 (dk_at dksX2_gap_0 9 rfl rfl)
theorem dX2_gap_10 : decode cX2_gap 10 = .ok (.invokevirtual 266, 3) := dk_182 1 10 (dk_at dksX2_gap_0 10 rfl rfl)
theorem dX2_gap_13 : decode cX2_gap 13 = .ok (.aload_n 0, 1) := dk_42 (dk_at dksX2_gap_0 13 rfl rfl)
theorem dX2_gap_14 : decode cX2_gap 14 = .ok (.getfield 7, 3) := dk_180 0 7 (dk_at dksX2_gap_0 14 rfl rfl)
theorem dX2_gap_17 : decode cX2_gap 17 = .ok (.bipush 19, 2) := dk_16 19 (dk_at dksX2_gap_0 17 rfl rfl)
theorem dX2_gap_19 : decode cX2_gap 19 = .ok (.iaload, 1) := dk_46 (dk_at dksX2_gap_0 19 rfl rfl)
theorem dX2_gap_20 : decode cX2_gap 20 = .ok (.isub, 1) := dk_100 (dk_at dksX2_gap_0 20 rfl rfl)
theorem dX2_gap_21 : decode cX2_gap 21 = .ok (.aload_n 0, 1) := dk_42 (dk_at dksX2_gap_0 21 rfl rfl)
theorem dX2_gap_22 : decode cX2_gap 22 = .ok (.getfield 7, 3) := dk_180 0 7 (dk_at dksX2_gap_1 0 rfl rfl)
theorem dX2_gap_25 : decode cX2_gap 25 = .ok (.bipush 14, 2) := dk_16 14 (dk_at dksX2_gap_1 3 rfl rfl)
theorem dX2_gap_27 : decode cX2_gap 27 = .ok (.iaload, 1) := dk_46 (dk_at dksX2_gap_1 5 rfl rfl)
theorem dX2_gap_28 : decode cX2_gap 28 = .ok (.isub, 1) := dk_100 (dk_at dksX2_gap_1 6 rfl rfl)
theorem dX2_gap_29 : decode cX2_gap 29 = .ok (.aload_n 0, 1) := dk_42 (dk_at dksX2_gap_1 7 rfl rfl)
theorem dX2_gap_30 : decode cX2_gap 30 = .ok (.getfield 7, 3) := dk_180 0 7 (dk_at dksX2_gap_1 8 rfl rfl)
theorem dX2_gap_33 : decode cX2_gap 33 = .ok (.bipush 16, 2) := dk_16 16 (dk_at dksX2_gap_1 11 rfl rfl)
theorem dX2_gap_35 : decode cX2_gap 35 = .ok (.iaload, 1) := dk_46 (dk_at dksX2_gap_1 13 rfl rfl)
theorem dX2_gap_36 : decode cX2_gap 36 = .ok (.iadd, 1) := dk_96 (dk_at dksX2_gap_1 14 rfl rfl)
theorem dX2_gap_37 : decode cX2_gap 37 = .ok (.invokestatic 113, 3) := dk_184 0 113 (dk_at dksX2_gap_1 15 rfl rfl)
theorem dX2_gap_40 : decode cX2_gap 40 = .ok (.istore_n 1, 1) := dk_60 (dk_at dksX2_gap_1 18 rfl rfl)
theorem dX2_gap_41 : decode cX2_gap 41 = .ok (.iconst 0, 1) := dk_3 (dk_at dksX2_gap_1 19 rfl rfl)
theorem dX2_gap_42 : decode cX2_gap 42 = .ok (.istore_n 2, 1) := dk_61 (dk_at dksX2_gap_1 20 rfl rfl)
theorem dX2_gap_43 : decode cX2_gap 43 = .ok (.iload_n 2, 1) := dk_28 (dk_at dksX2_gap_1 21 rfl rfl)
theorem dX2_gap_44 : decode cX2_gap 44 = .ok (.aload_n 0, 1) := dk_42 (dk_at dksX2_gap_1 22 rfl rfl)
theorem dX2_gap_45 : decode cX2_gap 45 = .ok (.invokevirtual 45, 3) := dk_182 0 45 (dk_at dksX2_gap_2 0 rfl rfl)
theorem dX2_gap_48 : decode cX2_gap 48 = .ok (.if_icmp .ge 20, 3) := dk_162 0 20 (dk_at dksX2_gap_2 3 rfl rfl)
theorem dX2_gap_51 : decode cX2_gap 51 = .ok (.iload_n 1, 1) := dk_27 (dk_at dksX2_gap_2 6 rfl rfl)
theorem dX2_gap_52 : decode cX2_gap 52 = .ok (.aload_n 0, 1) := dk_42 (dk_at dksX2_gap_2 7 rfl rfl)
theorem dX2_gap_53 : decode cX2_gap 53 = .ok (.iload_n 2, 1) := dk_28 (dk_at dksX2_gap_2 8 rfl rfl)
theorem dX2_gap_54 : decode cX2_gap 54 = .ok (.invokevirtual 56, 3) := dk_182 0 56 (dk_at dksX2_gap_2 9 rfl rfl)
theorem dX2_gap_57 : decode cX2_gap 57 = .ok (.invokestatic 75, 3) := dk_184 0 75 (dk_at dksX2_gap_2 12 rfl rfl)
theorem dX2_gap_60 : decode cX2_gap 60 = .ok (.iadd, 1) := dk_96 (dk_at dksX2_gap_2 15 rfl rfl)
theorem dX2_gap_61 : decode cX2_gap 61 = .ok (.istore_n 1, 1) := dk_60 (dk_at dksX2_gap_2 16 rfl rfl)
theorem dX2_gap_62 : decode cX2_gap 62 = .ok (.iinc 2 1, 3) := dk_132 2 1 (dk_at dksX2_gap_2 17 rfl rfl)
theorem dX2_gap_65 : decode cX2_gap 65 = .ok (.goto (-22), 3) := dk_167 255 234 (dk_at dksX2_gap_2 20 rfl rfl)
theorem dX2_gap_68 : decode cX2_gap 68 = .ok (.iload_n 1, 1) := dk_27 (dk_at dksX2_gap_2 23 rfl rfl)
theorem dX2_gap_69 : decode cX2_gap 69 = .ok (.ireturn, 1) := dk_172 (dk_at dksX2_gap_3 0 rfl rfl)
abbrev cX2_bar : ByteArray := prog_10_method_72_code
def yX2_bar : MethodName := ⟨RX2, "bar", "(II)I"⟩
def dkwX2_bar_8 : List UInt8 := [153, 0, 7, 4, 167, 0, 4, 3, 184, 0, 75, 172]
abbrev dktX2_bar_8 : List UInt8 := dkwX2_bar_8 ++ []
def dkwX2_bar_7 : List UInt8 := [182, 0, 98, 167, 0, 4, 2, 172, 21, 4, 184, 0, 75, 172, 21, 4, 153, 0, 15, 42, 29, 182, 0, 107]
abbrev dktX2_bar_7 : List UInt8 := dkwX2_bar_7 ++ dktX2_bar_8
def dkwX2_bar_6 : List UInt8 := [42, 180, 0, 7, 16, 40, 5, 27, 104, 96, 28, 96, 46, 172, 42, 27, 182, 0, 95, 153, 0, 11, 42, 27]
abbrev dktX2_bar_6 : List UInt8 := dkwX2_bar_6 ++ dktX2_bar_7
def dkwX2_bar_5 : List UInt8 := [170, 0, 0, 0, 0, 0, 0, 70, 0, 0, 0, 0, 0, 0, 0, 3, 0, 0, 0, 32, 0, 0, 0, 32, 0, 0, 0, 46, 0, 0, 0, 64]
abbrev dktX2_bar_5 : List UInt8 := dkwX2_bar_5 ++ dktX2_bar_6
def dkwX2_bar_4 : List UInt8 := [3, 54, 4, 28]
abbrev dktX2_bar_4 : List UInt8 := dkwX2_bar_4 ++ dktX2_bar_5
def dkwX2_bar_3 : List UInt8 := [182, 0, 89, 62, 42, 27, 182, 0, 95, 153, 0, 15, 42, 29, 182, 0, 101, 158, 0, 7, 4, 167, 0, 4]
abbrev dktX2_bar_3 : List UInt8 := dkwX2_bar_3 ++ dktX2_bar_4
def dkwX2_bar_2 : List UInt8 := [184, 0, 170, 154, 0, 7, 4, 167, 0, 4, 3, 6, 182, 0, 37, 153, 0, 5, 3, 172, 42, 27]
abbrev dktX2_bar_2 : List UInt8 := dkwX2_bar_2 ++ dktX2_bar_3
def dkwX2_bar_1 : List UInt8 := [154, 0, 7, 4, 167, 0, 4, 3, 5, 182, 0, 37, 154, 0, 28, 42, 28, 133, 9, 20, 1, 22]
abbrev dktX2_bar_1 : List UInt8 := dkwX2_bar_1 ++ dktX2_bar_2
def dkwX2_bar_0 : List UInt8 := [42, 182, 1, 0, 154, 0, 60, 42, 27, 133, 9, 42, 180, 0, 7, 16, 21, 46, 4, 100, 133, 184, 0, 170]
abbrev dktX2_bar_0 : List UInt8 := dkwX2_bar_0 ++ dktX2_bar_1
theorem dksX2_bar_0 : cX2_bar.data.toList.drop 0 = dktX2_bar_0 := by decide +kernel
theorem dksX2_bar_1 : cX2_bar.data.toList.drop 24 = dktX2_bar_1 := dk_seg dksX2_bar_0 24 rfl rfl
theorem dksX2_bar_2 : cX2_bar.data.toList.drop 46 = dktX2_bar_2 := dk_seg dksX2_bar_1 22 rfl rfl
theorem dksX2_bar_3 : cX2_bar.data.toList.drop 68 = dktX2_bar_3 := dk_seg dksX2_bar_2 22 rfl rfl
theorem dksX2_bar_4 : cX2_bar.data.toList.drop 92 = dktX2_bar_4 := dk_seg dksX2_bar_3 24 rfl rfl
theorem dksX2_bar_5 : cX2_bar.data.toList.drop 96 = dktX2_bar_5 := dk_seg dksX2_bar_4 4 rfl rfl
theorem dksX2_bar_6 : cX2_bar.data.toList.drop 128 = dktX2_bar_6 := dk_seg dksX2_bar_5 32 rfl rfl
theorem dksX2_bar_7 : cX2_bar.data.toList.drop 152 = dktX2_bar_7 := dk_seg dksX2_bar_6 24 rfl rfl
theorem dksX2_bar_8 : cX2_bar.data.toList.drop 176 = dktX2_bar_8 := dk_seg dksX2_bar_7 24 rfl rfl
theorem dX2_bar_0 : decode cX2_bar 0 = .ok (.aload_n 0, 1) := dk_42 (dk_at dksX2_bar_0 0 rfl rfl)
theorem dX2_bar_1 : decode cX2_bar 1 = .ok (.invokevirtual 256, 3) := dk_182 1 0 (dk_at dksX2_bar_0 1 rfl rfl)
theorem dX2_bar_4 : decode cX2_bar 4 = .ok (.ifCond .ne 60, 3) := dk_154 0 60 (dk_at dksX2_bar_0 4 rfl rfl)
theorem dX2_bar_7 : decode cX2_bar 7 = .ok (.aload_n 0, 1) := dk_42 (dk_at dksX2_bar_0 7 rfl rfl)
theorem dX2_bar_8 : decode cX2_bar 8 = .ok (.iload_n 1, 1) := dk_27 (dk_at dksX2_bar_0 8 rfl rfl)
theorem dX2_bar_9 : decode cX2_bar 9 = .ok (.i2l, 1) := dk_133 (dk_at dksX2_bar_0 9 rfl rfl)
theorem dX2_bar_10 : decode cX2_bar 10 = .ok (.lconst 0, 1) := dk_9 (dk_at dksX2_bar_0 10 rfl rfl)
theorem dX2_bar_11 : decode cX2_bar 11 = .ok (.aload_n 0, 1) := dk_42 (dk_at dksX2_bar_0 11 rfl rfl)
theorem dX2_bar_12 : decode cX2_bar 12 = .ok (.getfield 7, 3) := dk_180 0 7 (dk_at dksX2_bar_0 12 rfl rfl)
theorem dX2_bar_15 : decode cX2_bar 15 = .ok (.bipush 21, 2) := dk_16 21 (dk_at dksX2_bar_0 15 rfl rfl)
theorem dX2_bar_17 : decode cX2_bar 17 = .ok (.iaload, 1) := dk_46 (dk_at dksX2_bar_0 17 rfl rfl)
theorem dX2_bar_18 : decode cX2_bar 18 = .ok (.iconst 1, 1) := dk_4 (dk_at dksX2_bar_0 18 rfl rfl)
theorem dX2_bar_19 : decode cX2_bar 19 = .ok (.isub, 1) := dk_100 (dk_at dksX2_bar_0 19 rfl rfl)
theorem dX2_bar_20 : decode cX2_bar 20 = .ok (.i2l, 1) := dk_133 (dk_at dksX2_bar_0 20 rfl rfl)
theorem dX2_bar_21 : decode cX2_bar 21 = .ok (.invokestatic 170, 3) := dk_184 0 170 (dk_at dksX2_bar_0 21 rfl rfl)
theorem dX2_bar_24 : decode cX2_bar 24 = .ok (.ifCond .ne 7, 3) := dk_154 0 7 (dk_at dksX2_bar_1 0 rfl rfl)
theorem dX2_bar_27 : decode cX2_bar 27 = .ok (.iconst 1, 1) := dk_4 (dk_at dksX2_bar_1 3 rfl rfl)
theorem dX2_bar_28 : decode cX2_bar 28 = .ok (.goto 4, 3) := dk_167 0 4 (dk_at dksX2_bar_1 4 rfl rfl)
theorem dX2_bar_31 : decode cX2_bar 31 = .ok (.iconst 0, 1) := dk_3 (dk_at dksX2_bar_1 7 rfl rfl)
theorem dX2_bar_32 : decode cX2_bar 32 = .ok (.iconst 2, 1) := dk_5 (dk_at dksX2_bar_1 8 rfl rfl)
theorem dX2_bar_33 : decode cX2_bar 33 = .ok (.invokevirtual 37, 3) := dk_182 0 37 (dk_at dksX2_bar_1 9 rfl rfl)
theorem dX2_bar_36 : decode cX2_bar 36 = .ok (.ifCond .ne 28, 3) := dk_154 0 28 (dk_at dksX2_bar_1 12 rfl rfl)
theorem dX2_bar_39 : decode cX2_bar 39 = .ok (.aload_n 0, 1) := dk_42 (dk_at dksX2_bar_1 15 rfl rfl)
theorem dX2_bar_40 : decode cX2_bar 40 = .ok (.iload_n 2, 1) := dk_28 (dk_at dksX2_bar_1 16 rfl rfl)
theorem dX2_bar_41 : decode cX2_bar 41 = .ok (.i2l, 1) := dk_133 (dk_at dksX2_bar_1 17 rfl rfl)
theorem dX2_bar_42 : decode cX2_bar 42 = .ok (.lconst 0, 1) := dk_9 (dk_at dksX2_bar_1 18 rfl rfl)
theorem dX2_bar_43 : decode cX2_bar 43 = .ok (.ldc2_w 278, 3) := dk_20 1 22 (dk_at dksX2_bar_1 19 rfl rfl)
theorem dX2_bar_46 : decode cX2_bar 46 = .ok (.invokestatic 170, 3) := dk_184 0 170 (dk_at dksX2_bar_2 0 rfl rfl)
theorem dX2_bar_49 : decode cX2_bar 49 = .ok (.ifCond .ne 7, 3) := dk_154 0 7 (dk_at dksX2_bar_2 3 rfl rfl)
theorem dX2_bar_52 : decode cX2_bar 52 = .ok (.iconst 1, 1) := dk_4 (dk_at dksX2_bar_2 6 rfl rfl)
theorem dX2_bar_53 : decode cX2_bar 53 = .ok (.goto 4, 3) := dk_167 0 4 (dk_at dksX2_bar_2 7 rfl rfl)
theorem dX2_bar_56 : decode cX2_bar 56 = .ok (.iconst 0, 1) := dk_3 (dk_at dksX2_bar_2 10 rfl rfl)
theorem dX2_bar_57 : decode cX2_bar 57 = .ok (.iconst 3, 1) := dk_6 (dk_at dksX2_bar_2 11 rfl rfl)
theorem dX2_bar_58 : decode cX2_bar 58 = .ok (.invokevirtual 37, 3) := dk_182 0 37 (dk_at dksX2_bar_2 12 rfl rfl)
theorem dX2_bar_61 : decode cX2_bar 61 = .ok (.ifCond .eq 5, 3) := dk_153 0 5 (dk_at dksX2_bar_2 15 rfl rfl)
theorem dX2_bar_64 : decode cX2_bar 64 = .ok (.iconst 0, 1) := dk_3 (dk_at dksX2_bar_2 18 rfl rfl)
theorem dX2_bar_65 : decode cX2_bar 65 = .ok (.ireturn, 1) := dk_172 (dk_at dksX2_bar_2 19 rfl rfl)
theorem dX2_bar_66 : decode cX2_bar 66 = .ok (.aload_n 0, 1) := dk_42 (dk_at dksX2_bar_2 20 rfl rfl)
theorem dX2_bar_67 : decode cX2_bar 67 = .ok (.iload_n 1, 1) := dk_27 (dk_at dksX2_bar_2 21 rfl rfl)
theorem dX2_bar_68 : decode cX2_bar 68 = .ok (.invokevirtual 89, 3) := dk_182 0 89 (dk_at dksX2_bar_3 0 rfl rfl)
theorem dX2_bar_71 : decode cX2_bar 71 = .ok (.istore_n 3, 1) := dk_62 (dk_at dksX2_bar_3 3 rfl rfl)
theorem dX2_bar_72 : decode cX2_bar 72 = .ok (.aload_n 0, 1) := dk_42 (dk_at dksX2_bar_3 4 rfl rfl)
theorem dX2_bar_73 : decode cX2_bar 73 = .ok (.iload_n 1, 1) := dk_27 (dk_at dksX2_bar_3 5 rfl rfl)
theorem dX2_bar_74 : decode cX2_bar 74 = .ok (.invokevirtual 95, 3) := dk_182 0 95 (dk_at dksX2_bar_3 6 rfl rfl)
theorem dX2_bar_77 : decode cX2_bar 77 = .ok (.ifCond .eq 15, 3) := dk_153 0 15 (dk_at dksX2_bar_3 9 rfl rfl)
theorem dX2_bar_80 : decode cX2_bar 80 = .ok (.aload_n 0, 1) := dk_42 (dk_at dksX2_bar_3 12 rfl rfl)
theorem dX2_bar_81 : decode cX2_bar 81 = .ok (.iload_n 3, 1) := dk_29 (dk_at dksX2_bar_3 13 rfl rfl)
theorem dX2_bar_82 : decode cX2_bar 82 = .ok (.invokevirtual 101, 3) := dk_182 0 101 (dk_at dksX2_bar_3 14 rfl rfl)
theorem dX2_bar_85 : decode cX2_bar 85 = .ok (.ifCond .le 7, 3) := dk_158 0 7 (dk_at dksX2_bar_3 17 rfl rfl)
theorem dX2_bar_88 : decode cX2_bar 88 = .ok (.iconst 1, 1) := dk_4 (dk_at dksX2_bar_3 20 rfl rfl)
theorem dX2_bar_89 : decode cX2_bar 89 = .ok (.goto 4, 3) := dk_167 0 4 (dk_at dksX2_bar_3 21 rfl rfl)
theorem dX2_bar_92 : decode cX2_bar 92 = .ok (.iconst 0, 1) := dk_3 (dk_at dksX2_bar_4 0 rfl rfl)
theorem dX2_bar_93 : decode cX2_bar 93 = .ok (.istore 4, 2) := dk_54 4 (dk_at dksX2_bar_4 1 rfl rfl)
theorem dX2_bar_95 : decode cX2_bar 95 = .ok (.iload_n 2, 1) := dk_28 (dk_at dksX2_bar_4 3 rfl rfl)
theorem dX2_bar_96 : decode cX2_bar 96 = .ok (.tableswitch 70 0 3 #[32, 32, 46, 64], 32) := by decide +kernel
theorem dX2_bar_128 : decode cX2_bar 128 = .ok (.aload_n 0, 1) := dk_42 (dk_at dksX2_bar_6 0 rfl rfl)
theorem dX2_bar_129 : decode cX2_bar 129 = .ok (.getfield 7, 3) := dk_180 0 7 (dk_at dksX2_bar_6 1 rfl rfl)
theorem dX2_bar_132 : decode cX2_bar 132 = .ok (.bipush 40, 2) := dk_16 40 (dk_at dksX2_bar_6 4 rfl rfl)
theorem dX2_bar_134 : decode cX2_bar 134 = .ok (.iconst 2, 1) := dk_5 (dk_at dksX2_bar_6 6 rfl rfl)
theorem dX2_bar_135 : decode cX2_bar 135 = .ok (.iload_n 1, 1) := dk_27 (dk_at dksX2_bar_6 7 rfl rfl)
theorem dX2_bar_136 : decode cX2_bar 136 = .ok (.imul, 1) := dk_104 (dk_at dksX2_bar_6 8 rfl rfl)
theorem dX2_bar_137 : decode cX2_bar 137 = .ok (.iadd, 1) := dk_96 (dk_at dksX2_bar_6 9 rfl rfl)
theorem dX2_bar_138 : decode cX2_bar 138 = .ok (.iload_n 2, 1) := dk_28 (dk_at dksX2_bar_6 10 rfl rfl)
theorem dX2_bar_139 : decode cX2_bar 139 = .ok (.iadd, 1) := dk_96 (dk_at dksX2_bar_6 11 rfl rfl)
theorem dX2_bar_140 : decode cX2_bar 140 = .ok (.iaload, 1) := dk_46 (dk_at dksX2_bar_6 12 rfl rfl)
theorem dX2_bar_141 : decode cX2_bar 141 = .ok (.ireturn, 1) := dk_172 (dk_at dksX2_bar_6 13 rfl rfl)
theorem dX2_bar_142 : decode cX2_bar 142 = .ok (.aload_n 0, 1) := dk_42 (dk_at dksX2_bar_6 14 rfl rfl)
theorem dX2_bar_143 : decode cX2_bar 143 = .ok (.iload_n 1, 1) := dk_27 (dk_at dksX2_bar_6 15 rfl rfl)
theorem dX2_bar_144 : decode cX2_bar 144 = .ok (.invokevirtual 95, 3) := dk_182 0 95 (dk_at dksX2_bar_6 16 rfl rfl)
theorem dX2_bar_147 : decode cX2_bar 147 = .ok (.ifCond .eq 11, 3) := dk_153 0 11 (dk_at dksX2_bar_6 19 rfl rfl)
theorem dX2_bar_150 : decode cX2_bar 150 = .ok (.aload_n 0, 1) := dk_42 (dk_at dksX2_bar_6 22 rfl rfl)
theorem dX2_bar_151 : decode cX2_bar 151 = .ok (.iload_n 1, 1) := dk_27 (dk_at dksX2_bar_6 23 rfl rfl)
theorem dX2_bar_152 : decode cX2_bar 152 = .ok (.invokevirtual 98, 3) := dk_182 0 98 (dk_at dksX2_bar_7 0 rfl rfl)
theorem dX2_bar_155 : decode cX2_bar 155 = .ok (.goto 4, 3) := dk_167 0 4 (dk_at dksX2_bar_7 3 rfl rfl)
theorem dX2_bar_158 : decode cX2_bar 158 = .ok (.iconst (-1), 1) := dk_2 (dk_at dksX2_bar_7 6 rfl rfl)
theorem dX2_bar_159 : decode cX2_bar 159 = .ok (.ireturn, 1) := dk_172 (dk_at dksX2_bar_7 7 rfl rfl)
theorem dX2_bar_160 : decode cX2_bar 160 = .ok (.iload 4, 2) := dk_21 4 (dk_at dksX2_bar_7 8 rfl rfl)
theorem dX2_bar_162 : decode cX2_bar 162 = .ok (.invokestatic 75, 3) := dk_184 0 75 (dk_at dksX2_bar_7 10 rfl rfl)
theorem dX2_bar_165 : decode cX2_bar 165 = .ok (.ireturn, 1) := dk_172 (dk_at dksX2_bar_7 13 rfl rfl)
theorem dX2_bar_166 : decode cX2_bar 166 = .ok (.iload 4, 2) := dk_21 4 (dk_at dksX2_bar_7 14 rfl rfl)
theorem dX2_bar_168 : decode cX2_bar 168 = .ok (.ifCond .eq 15, 3) := dk_153 0 15 (dk_at dksX2_bar_7 16 rfl rfl)
theorem dX2_bar_171 : decode cX2_bar 171 = .ok (.aload_n 0, 1) := dk_42 (dk_at dksX2_bar_7 19 rfl rfl)
theorem dX2_bar_172 : decode cX2_bar 172 = .ok (.iload_n 3, 1) := dk_29 (dk_at dksX2_bar_7 20 rfl rfl)
theorem dX2_bar_173 : decode cX2_bar 173 = .ok (.invokevirtual 107, 3) := dk_182 0 107 (dk_at dksX2_bar_7 21 rfl rfl)
theorem dX2_bar_176 : decode cX2_bar 176 = .ok (.ifCond .eq 7, 3) := dk_153 0 7 (dk_at dksX2_bar_8 0 rfl rfl)
theorem dX2_bar_179 : decode cX2_bar 179 = .ok (.iconst 1, 1) := dk_4 (dk_at dksX2_bar_8 3 rfl rfl)
theorem dX2_bar_180 : decode cX2_bar 180 = .ok (.goto 4, 3) := dk_167 0 4 (dk_at dksX2_bar_8 4 rfl rfl)
theorem dX2_bar_183 : decode cX2_bar 183 = .ok (.iconst 0, 1) := dk_3 (dk_at dksX2_bar_8 7 rfl rfl)
theorem dX2_bar_184 : decode cX2_bar 184 = .ok (.invokestatic 75, 3) := dk_184 0 75 (dk_at dksX2_bar_8 8 rfl rfl)
theorem dX2_bar_187 : decode cX2_bar 187 = .ok (.ireturn, 1) := dk_172 (dk_at dksX2_bar_8 11 rfl rfl)
abbrev cX2_heap : ByteArray := prog_10_method_73_code
def yX2_heap : MethodName := ⟨RX2, "heap", "(I)I"⟩
def dkwX2_heap_5 : List UInt8 := [4, 167, 0, 4, 3, 184, 0, 75, 172, 42, 182, 1, 26, 172]
abbrev dktX2_heap_5 : List UInt8 := dkwX2_heap_5 ++ []
def dkwX2_heap_4 : List UInt8 := [167, 0, 4, 3, 184, 0, 75, 172, 42, 28, 182, 0, 101, 158, 0, 15, 42, 28, 182, 0, 107, 153, 0, 7]
abbrev dktX2_heap_4 : List UInt8 := dkwX2_heap_4 ++ dktX2_heap_5
def dkwX2_heap_3 : List UInt8 := [28, 172, 42, 28, 182, 0, 86, 172, 42, 182, 0, 92, 172, 42, 28, 182, 0, 101, 158, 0, 7, 4]
abbrev dktX2_heap_3 : List UInt8 := dkwX2_heap_3 ++ dktX2_heap_4
def dkwX2_heap_2 : List UInt8 := [170, 0, 0, 0, 0, 0, 0, 91, 0, 0, 0, 0, 0, 0, 0, 4, 0, 0, 0, 36, 0, 0, 0, 38, 0, 0, 0, 44, 0, 0, 0, 49, 0, 0, 0, 66]
abbrev dktX2_heap_2 : List UInt8 := dkwX2_heap_2 ++ dktX2_heap_3
def dkwX2_heap_1 : List UInt8 := [3, 5, 182, 0, 37, 153, 0, 5, 3, 172, 42, 182, 0, 83, 61, 27]
abbrev dktX2_heap_1 : List UInt8 := dkwX2_heap_1 ++ dktX2_heap_2
def dkwX2_heap_0 : List UInt8 := [42, 182, 1, 0, 154, 0, 28, 42, 27, 133, 9, 20, 1, 24, 184, 0, 170, 154, 0, 7, 4, 167, 0, 4]
abbrev dktX2_heap_0 : List UInt8 := dkwX2_heap_0 ++ dktX2_heap_1
theorem dksX2_heap_0 : cX2_heap.data.toList.drop 0 = dktX2_heap_0 := by decide +kernel
theorem dksX2_heap_1 : cX2_heap.data.toList.drop 24 = dktX2_heap_1 := dk_seg dksX2_heap_0 24 rfl rfl
theorem dksX2_heap_2 : cX2_heap.data.toList.drop 40 = dktX2_heap_2 := dk_seg dksX2_heap_1 16 rfl rfl
theorem dksX2_heap_3 : cX2_heap.data.toList.drop 76 = dktX2_heap_3 := dk_seg dksX2_heap_2 36 rfl rfl
theorem dksX2_heap_4 : cX2_heap.data.toList.drop 98 = dktX2_heap_4 := dk_seg dksX2_heap_3 22 rfl rfl
theorem dksX2_heap_5 : cX2_heap.data.toList.drop 122 = dktX2_heap_5 := dk_seg dksX2_heap_4 24 rfl rfl
theorem dX2_heap_0 : decode cX2_heap 0 = .ok (.aload_n 0, 1) := dk_42 (dk_at dksX2_heap_0 0 rfl rfl)
theorem dX2_heap_1 : decode cX2_heap 1 = .ok (.invokevirtual 256, 3) := dk_182 1 0 (dk_at dksX2_heap_0 1 rfl rfl)
theorem dX2_heap_4 : decode cX2_heap 4 = .ok (.ifCond .ne 28, 3) := dk_154 0 28 (dk_at dksX2_heap_0 4 rfl rfl)
theorem dX2_heap_7 : decode cX2_heap 7 = .ok (.aload_n 0, 1) := dk_42 (dk_at dksX2_heap_0 7 rfl rfl)
theorem dX2_heap_8 : decode cX2_heap 8 = .ok (.iload_n 1, 1) := dk_27 (dk_at dksX2_heap_0 8 rfl rfl)
theorem dX2_heap_9 : decode cX2_heap 9 = .ok (.i2l, 1) := dk_133 (dk_at dksX2_heap_0 9 rfl rfl)
theorem dX2_heap_10 : decode cX2_heap 10 = .ok (.lconst 0, 1) := dk_9 (dk_at dksX2_heap_0 10 rfl rfl)
theorem dX2_heap_11 : decode cX2_heap 11 = .ok (.ldc2_w 280, 3) := dk_20 1 24 (dk_at dksX2_heap_0 11 rfl rfl)
theorem dX2_heap_14 : decode cX2_heap 14 = .ok (.invokestatic 170, 3) := dk_184 0 170 (dk_at dksX2_heap_0 14 rfl rfl)
theorem dX2_heap_17 : decode cX2_heap 17 = .ok (.ifCond .ne 7, 3) := dk_154 0 7 (dk_at dksX2_heap_0 17 rfl rfl)
theorem dX2_heap_20 : decode cX2_heap 20 = .ok (.iconst 1, 1) := dk_4 (dk_at dksX2_heap_0 20 rfl rfl)
theorem dX2_heap_21 : decode cX2_heap 21 = .ok (.goto 4, 3) := dk_167 0 4 (dk_at dksX2_heap_0 21 rfl rfl)
theorem dX2_heap_24 : decode cX2_heap 24 = .ok (.iconst 0, 1) := dk_3 (dk_at dksX2_heap_1 0 rfl rfl)
theorem dX2_heap_25 : decode cX2_heap 25 = .ok (.iconst 2, 1) := dk_5 (dk_at dksX2_heap_1 1 rfl rfl)
theorem dX2_heap_26 : decode cX2_heap 26 = .ok (.invokevirtual 37, 3) := dk_182 0 37 (dk_at dksX2_heap_1 2 rfl rfl)
theorem dX2_heap_29 : decode cX2_heap 29 = .ok (.ifCond .eq 5, 3) := dk_153 0 5 (dk_at dksX2_heap_1 5 rfl rfl)
theorem dX2_heap_32 : decode cX2_heap 32 = .ok (.iconst 0, 1) := dk_3 (dk_at dksX2_heap_1 8 rfl rfl)
theorem dX2_heap_33 : decode cX2_heap 33 = .ok (.ireturn, 1) := dk_172 (dk_at dksX2_heap_1 9 rfl rfl)
theorem dX2_heap_34 : decode cX2_heap 34 = .ok (.aload_n 0, 1) := dk_42 (dk_at dksX2_heap_1 10 rfl rfl)
theorem dX2_heap_35 : decode cX2_heap 35 = .ok (.invokevirtual 83, 3) := dk_182 0 83 (dk_at dksX2_heap_1 11 rfl rfl)
theorem dX2_heap_38 : decode cX2_heap 38 = .ok (.istore_n 2, 1) := dk_61 (dk_at dksX2_heap_1 14 rfl rfl)
theorem dX2_heap_39 : decode cX2_heap 39 = .ok (.iload_n 1, 1) := dk_27 (dk_at dksX2_heap_1 15 rfl rfl)
theorem dX2_heap_40 : decode cX2_heap 40 = .ok (.tableswitch 91 0 4 #[36, 38, 44, 49, 66], 36) := by decide +kernel
theorem dX2_heap_76 : decode cX2_heap 76 = .ok (.iload_n 2, 1) := dk_28 (dk_at dksX2_heap_3 0 rfl rfl)
theorem dX2_heap_77 : decode cX2_heap 77 = .ok (.ireturn, 1) := dk_172 (dk_at dksX2_heap_3 1 rfl rfl)
theorem dX2_heap_78 : decode cX2_heap 78 = .ok (.aload_n 0, 1) := dk_42 (dk_at dksX2_heap_3 2 rfl rfl)
theorem dX2_heap_79 : decode cX2_heap 79 = .ok (.iload_n 2, 1) := dk_28 (dk_at dksX2_heap_3 3 rfl rfl)
theorem dX2_heap_80 : decode cX2_heap 80 = .ok (.invokevirtual 86, 3) := dk_182 0 86 (dk_at dksX2_heap_3 4 rfl rfl)
theorem dX2_heap_83 : decode cX2_heap 83 = .ok (.ireturn, 1) := dk_172 (dk_at dksX2_heap_3 7 rfl rfl)
theorem dX2_heap_84 : decode cX2_heap 84 = .ok (.aload_n 0, 1) := dk_42 (dk_at dksX2_heap_3 8 rfl rfl)
theorem dX2_heap_85 : decode cX2_heap 85 = .ok (.invokevirtual 92, 3) := dk_182 0 92 (dk_at dksX2_heap_3 9 rfl rfl)
theorem dX2_heap_88 : decode cX2_heap 88 = .ok (.ireturn, 1) := dk_172 (dk_at dksX2_heap_3 12 rfl rfl)
theorem dX2_heap_89 : decode cX2_heap 89 = .ok (.aload_n 0, 1) := dk_42 (dk_at dksX2_heap_3 13 rfl rfl)
theorem dX2_heap_90 : decode cX2_heap 90 = .ok (.iload_n 2, 1) := dk_28 (dk_at dksX2_heap_3 14 rfl rfl)
theorem dX2_heap_91 : decode cX2_heap 91 = .ok (.invokevirtual 101, 3) := dk_182 0 101 (dk_at dksX2_heap_3 15 rfl rfl)
theorem dX2_heap_94 : decode cX2_heap 94 = .ok (.ifCond .le 7, 3) := dk_158 0 7 (dk_at dksX2_heap_3 18 rfl rfl)
theorem dX2_heap_97 : decode cX2_heap 97 = .ok (.iconst 1, 1) := dk_4 (dk_at dksX2_heap_3 21 rfl rfl)
theorem dX2_heap_98 : decode cX2_heap 98 = .ok (.goto 4, 3) := dk_167 0 4 (dk_at dksX2_heap_4 0 rfl rfl)
theorem dX2_heap_101 : decode cX2_heap 101 = .ok (.iconst 0, 1) := dk_3 (dk_at dksX2_heap_4 3 rfl rfl)
theorem dX2_heap_102 : decode cX2_heap 102 = .ok (.invokestatic 75, 3) := dk_184 0 75 (dk_at dksX2_heap_4 4 rfl rfl)
theorem dX2_heap_105 : decode cX2_heap 105 = .ok (.ireturn, 1) := dk_172 (dk_at dksX2_heap_4 7 rfl rfl)
theorem dX2_heap_106 : decode cX2_heap 106 = .ok (.aload_n 0, 1) := dk_42 (dk_at dksX2_heap_4 8 rfl rfl)
theorem dX2_heap_107 : decode cX2_heap 107 = .ok (.iload_n 2, 1) := dk_28 (dk_at dksX2_heap_4 9 rfl rfl)
theorem dX2_heap_108 : decode cX2_heap 108 = .ok (.invokevirtual 101, 3) := dk_182 0 101 (dk_at dksX2_heap_4 10 rfl rfl)
theorem dX2_heap_111 : decode cX2_heap 111 = .ok (.ifCond .le 15, 3) := dk_158 0 15 (dk_at dksX2_heap_4 13 rfl rfl)
theorem dX2_heap_114 : decode cX2_heap 114 = .ok (.aload_n 0, 1) := dk_42 (dk_at dksX2_heap_4 16 rfl rfl)
theorem dX2_heap_115 : decode cX2_heap 115 = .ok (.iload_n 2, 1) := dk_28 (dk_at dksX2_heap_4 17 rfl rfl)
theorem dX2_heap_116 : decode cX2_heap 116 = .ok (.invokevirtual 107, 3) := dk_182 0 107 (dk_at dksX2_heap_4 18 rfl rfl)
theorem dX2_heap_119 : decode cX2_heap 119 = .ok (.ifCond .eq 7, 3) := dk_153 0 7 (dk_at dksX2_heap_4 21 rfl rfl)
theorem dX2_heap_122 : decode cX2_heap 122 = .ok (.iconst 1, 1) := dk_4 (dk_at dksX2_heap_5 0 rfl rfl)
theorem dX2_heap_123 : decode cX2_heap 123 = .ok (.goto 4, 3) := dk_167 0 4 (dk_at dksX2_heap_5 1 rfl rfl)
theorem dX2_heap_126 : decode cX2_heap 126 = .ok (.iconst 0, 1) := dk_3 (dk_at dksX2_heap_5 4 rfl rfl)
theorem dX2_heap_127 : decode cX2_heap 127 = .ok (.invokestatic 75, 3) := dk_184 0 75 (dk_at dksX2_heap_5 5 rfl rfl)
theorem dX2_heap_130 : decode cX2_heap 130 = .ok (.ireturn, 1) := dk_172 (dk_at dksX2_heap_5 8 rfl rfl)
theorem dX2_heap_131 : decode cX2_heap 131 = .ok (.aload_n 0, 1) := dk_42 (dk_at dksX2_heap_5 9 rfl rfl)
theorem dX2_heap_132 : decode cX2_heap 132 = .ok (.invokevirtual 282, 3) := dk_182 1 26 (dk_at dksX2_heap_5 10 rfl rfl)
theorem dX2_heap_135 : decode cX2_heap 135 = .ok (.ireturn, 1) := dk_172 (dk_at dksX2_heap_5 13 rfl rfl)
abbrev cX2_heapLevel : ByteArray := prog_10_method_24_code
def yX2_heapLevel : MethodName := ⟨RX2, "heapLevel", "()I"⟩
def dkwX2_heapLevel_0 : List UInt8 := [42, 42, 180, 0, 7, 7, 46, 182, 0, 49, 172]
abbrev dktX2_heapLevel_0 : List UInt8 := dkwX2_heapLevel_0 ++ []
theorem dksX2_heapLevel_0 : cX2_heapLevel.data.toList.drop 0 = dktX2_heapLevel_0 := by decide +kernel
theorem dX2_heapLevel_0 : decode cX2_heapLevel 0 = .ok (.aload_n 0, 1) := dk_42 (dk_at dksX2_heapLevel_0 0 rfl rfl)
theorem dX2_heapLevel_1 : decode cX2_heapLevel 1 = .ok (.aload_n 0, 1) := dk_42 (dk_at dksX2_heapLevel_0 1 rfl rfl)
theorem dX2_heapLevel_2 : decode cX2_heapLevel 2 = .ok (.getfield 7, 3) := dk_180 0 7 (dk_at dksX2_heapLevel_0 2 rfl rfl)
theorem dX2_heapLevel_5 : decode cX2_heapLevel 5 = .ok (.iconst 4, 1) := dk_7 (dk_at dksX2_heapLevel_0 5 rfl rfl)
theorem dX2_heapLevel_6 : decode cX2_heapLevel 6 = .ok (.iaload, 1) := dk_46 (dk_at dksX2_heapLevel_0 6 rfl rfl)
theorem dX2_heapLevel_7 : decode cX2_heapLevel 7 = .ok (.invokevirtual 49, 3) := dk_182 0 49 (dk_at dksX2_heapLevel_0 7 rfl rfl)
theorem dX2_heapLevel_10 : decode cX2_heapLevel 10 = .ok (.ireturn, 1) := dk_172 (dk_at dksX2_heapLevel_0 10 rfl rfl)
abbrev cX2_mask : ByteArray := prog_10_method_74_code
def yX2_mask : MethodName := ⟨RX2, "mask", "(I)I"⟩
def dkwX2_mask_2 : List UInt8 := [172]
abbrev dktX2_mask_2 : List UInt8 := dkwX2_mask_2 ++ []
def dkwX2_mask_1 : List UInt8 := [167, 0, 4, 3, 5, 182, 0, 37, 153, 0, 7, 3, 167, 0, 12, 42, 180, 0, 7, 16, 52, 27, 96, 46]
abbrev dktX2_mask_1 : List UInt8 := dkwX2_mask_1 ++ dktX2_mask_2
def dkwX2_mask_0 : List UInt8 := [42, 182, 1, 0, 154, 0, 30, 42, 27, 133, 9, 42, 182, 0, 60, 133, 184, 0, 170, 154, 0, 7, 4]
abbrev dktX2_mask_0 : List UInt8 := dkwX2_mask_0 ++ dktX2_mask_1
theorem dksX2_mask_0 : cX2_mask.data.toList.drop 0 = dktX2_mask_0 := by decide +kernel
theorem dksX2_mask_1 : cX2_mask.data.toList.drop 23 = dktX2_mask_1 := dk_seg dksX2_mask_0 23 rfl rfl
theorem dksX2_mask_2 : cX2_mask.data.toList.drop 47 = dktX2_mask_2 := dk_seg dksX2_mask_1 24 rfl rfl
theorem dX2_mask_0 : decode cX2_mask 0 = .ok (.aload_n 0, 1) := dk_42 (dk_at dksX2_mask_0 0 rfl rfl)
theorem dX2_mask_1 : decode cX2_mask 1 = .ok (.invokevirtual 256, 3) := dk_182 1 0 (dk_at dksX2_mask_0 1 rfl rfl)
theorem dX2_mask_4 : decode cX2_mask 4 = .ok (.ifCond .ne 30, 3) := dk_154 0 30 (dk_at dksX2_mask_0 4 rfl rfl)
theorem dX2_mask_7 : decode cX2_mask 7 = .ok (.aload_n 0, 1) := dk_42 (dk_at dksX2_mask_0 7 rfl rfl)
theorem dX2_mask_8 : decode cX2_mask 8 = .ok (.iload_n 1, 1) := dk_27 (dk_at dksX2_mask_0 8 rfl rfl)
theorem dX2_mask_9 : decode cX2_mask 9 = .ok (.i2l, 1) := dk_133 (dk_at dksX2_mask_0 9 rfl rfl)
theorem dX2_mask_10 : decode cX2_mask 10 = .ok (.lconst 0, 1) := dk_9 (dk_at dksX2_mask_0 10 rfl rfl)
theorem dX2_mask_11 : decode cX2_mask 11 = .ok (.aload_n 0, 1) := dk_42 (dk_at dksX2_mask_0 11 rfl rfl)
theorem dX2_mask_12 : decode cX2_mask 12 = .ok (.invokevirtual 60, 3) := dk_182 0 60 (dk_at dksX2_mask_0 12 rfl rfl)
theorem dX2_mask_15 : decode cX2_mask 15 = .ok (.i2l, 1) := dk_133 (dk_at dksX2_mask_0 15 rfl rfl)
theorem dX2_mask_16 : decode cX2_mask 16 = .ok (.invokestatic 170, 3) := dk_184 0 170 (dk_at dksX2_mask_0 16 rfl rfl)
theorem dX2_mask_19 : decode cX2_mask 19 = .ok (.ifCond .ne 7, 3) := dk_154 0 7 (dk_at dksX2_mask_0 19 rfl rfl)
theorem dX2_mask_22 : decode cX2_mask 22 = .ok (.iconst 1, 1) := dk_4 (dk_at dksX2_mask_0 22 rfl rfl)
theorem dX2_mask_23 : decode cX2_mask 23 = .ok (.goto 4, 3) := dk_167 0 4 (dk_at dksX2_mask_1 0 rfl rfl)
theorem dX2_mask_26 : decode cX2_mask 26 = .ok (.iconst 0, 1) := dk_3 (dk_at dksX2_mask_1 3 rfl rfl)
theorem dX2_mask_27 : decode cX2_mask 27 = .ok (.iconst 2, 1) := dk_5 (dk_at dksX2_mask_1 4 rfl rfl)
theorem dX2_mask_28 : decode cX2_mask 28 = .ok (.invokevirtual 37, 3) := dk_182 0 37 (dk_at dksX2_mask_1 5 rfl rfl)
theorem dX2_mask_31 : decode cX2_mask 31 = .ok (.ifCond .eq 7, 3) := dk_153 0 7 (dk_at dksX2_mask_1 8 rfl rfl)
theorem dX2_mask_34 : decode cX2_mask 34 = .ok (.iconst 0, 1) := dk_3 (dk_at dksX2_mask_1 11 rfl rfl)
theorem dX2_mask_35 : decode cX2_mask 35 = .ok (.goto 12, 3) := dk_167 0 12 (dk_at dksX2_mask_1 12 rfl rfl)
theorem dX2_mask_38 : decode cX2_mask 38 = .ok (.aload_n 0, 1) := dk_42 (dk_at dksX2_mask_1 15 rfl rfl)
theorem dX2_mask_39 : decode cX2_mask 39 = .ok (.getfield 7, 3) := dk_180 0 7 (dk_at dksX2_mask_1 16 rfl rfl)
theorem dX2_mask_42 : decode cX2_mask 42 = .ok (.bipush 52, 2) := dk_16 52 (dk_at dksX2_mask_1 19 rfl rfl)
theorem dX2_mask_44 : decode cX2_mask 44 = .ok (.iload_n 1, 1) := dk_27 (dk_at dksX2_mask_1 21 rfl rfl)
theorem dX2_mask_45 : decode cX2_mask 45 = .ok (.iadd, 1) := dk_96 (dk_at dksX2_mask_1 22 rfl rfl)
theorem dX2_mask_46 : decode cX2_mask 46 = .ok (.iaload, 1) := dk_46 (dk_at dksX2_mask_1 23 rfl rfl)
theorem dX2_mask_47 : decode cX2_mask 47 = .ok (.ireturn, 1) := dk_172 (dk_at dksX2_mask_2 0 rfl rfl)
abbrev cX2_echo : ByteArray := prog_10_method_75_code
def yX2_echo : MethodName := ⟨RX2, "echo", "(IZ)I"⟩
def dkwX2_echo_2 : List UInt8 := [167, 0, 5, 21, 4, 172, 132, 3, 255, 132, 4, 1, 167, 255, 212, 2, 172]
abbrev dktX2_echo_2 : List UInt8 := dkwX2_echo_2 ++ []
def dkwX2_echo_1 : List UInt8 := [21, 4, 182, 0, 101, 158, 0, 26, 29, 154, 0, 19, 28, 153, 0, 12, 42, 21, 4, 182, 0, 101]
abbrev dktX2_echo_1 : List UInt8 := dkwX2_echo_1 ++ dktX2_echo_2
def dkwX2_echo_0 : List UInt8 := [42, 182, 1, 0, 153, 0, 5, 3, 172, 27, 62, 3, 54, 4, 21, 4, 42, 182, 0, 60, 163, 0, 41, 42]
abbrev dktX2_echo_0 : List UInt8 := dkwX2_echo_0 ++ dktX2_echo_1
theorem dksX2_echo_0 : cX2_echo.data.toList.drop 0 = dktX2_echo_0 := by decide +kernel
theorem dksX2_echo_1 : cX2_echo.data.toList.drop 24 = dktX2_echo_1 := dk_seg dksX2_echo_0 24 rfl rfl
theorem dksX2_echo_2 : cX2_echo.data.toList.drop 46 = dktX2_echo_2 := dk_seg dksX2_echo_1 22 rfl rfl
theorem dX2_echo_0 : decode cX2_echo 0 = .ok (.aload_n 0, 1) := dk_42 (dk_at dksX2_echo_0 0 rfl rfl)
theorem dX2_echo_1 : decode cX2_echo 1 = .ok (.invokevirtual 256, 3) := dk_182 1 0 (dk_at dksX2_echo_0 1 rfl rfl)
theorem dX2_echo_4 : decode cX2_echo 4 = .ok (.ifCond .eq 5, 3) := dk_153 0 5 (dk_at dksX2_echo_0 4 rfl rfl)
theorem dX2_echo_7 : decode cX2_echo 7 = .ok (.iconst 0, 1) := dk_3 (dk_at dksX2_echo_0 7 rfl rfl)
theorem dX2_echo_8 : decode cX2_echo 8 = .ok (.ireturn, 1) := dk_172 (dk_at dksX2_echo_0 8 rfl rfl)
theorem dX2_echo_9 : decode cX2_echo 9 = .ok (.iload_n 1, 1) := dk_27 (dk_at dksX2_echo_0 9 rfl rfl)
theorem dX2_echo_10 : decode cX2_echo 10 = .ok (.istore_n 3, 1) := dk_62 (dk_at dksX2_echo_0 10 rfl rfl)
theorem dX2_echo_11 : decode cX2_echo 11 = .ok (.iconst 0, 1) := dk_3 (dk_at dksX2_echo_0 11 rfl rfl)
theorem dX2_echo_12 : decode cX2_echo 12 = .ok (.istore 4, 2) := dk_54 4 (dk_at dksX2_echo_0 12 rfl rfl)
theorem dX2_echo_14 : decode cX2_echo 14 = .ok (.iload 4, 2) := dk_21 4 (dk_at dksX2_echo_0 14 rfl rfl)
theorem dX2_echo_16 : decode cX2_echo 16 = .ok (.aload_n 0, 1) := dk_42 (dk_at dksX2_echo_0 16 rfl rfl)
theorem dX2_echo_17 : decode cX2_echo 17 = .ok (.invokevirtual 60, 3) := dk_182 0 60 (dk_at dksX2_echo_0 17 rfl rfl)
theorem dX2_echo_20 : decode cX2_echo 20 = .ok (.if_icmp .gt 41, 3) := dk_163 0 41 (dk_at dksX2_echo_0 20 rfl rfl)
theorem dX2_echo_23 : decode cX2_echo 23 = .ok (.aload_n 0, 1) := dk_42 (dk_at dksX2_echo_0 23 rfl rfl)
theorem dX2_echo_24 : decode cX2_echo 24 = .ok (.iload 4, 2) := dk_21 4 (dk_at dksX2_echo_1 0 rfl rfl)
theorem dX2_echo_26 : decode cX2_echo 26 = .ok (.invokevirtual 101, 3) := dk_182 0 101 (dk_at dksX2_echo_1 2 rfl rfl)
theorem dX2_echo_29 : decode cX2_echo 29 = .ok (.ifCond .le 26, 3) := dk_158 0 26 (dk_at dksX2_echo_1 5 rfl rfl)
theorem dX2_echo_32 : decode cX2_echo 32 = .ok (.iload_n 3, 1) := dk_29 (dk_at dksX2_echo_1 8 rfl rfl)
theorem dX2_echo_33 : decode cX2_echo 33 = .ok (.ifCond .ne 19, 3) := dk_154 0 19 (dk_at dksX2_echo_1 9 rfl rfl)
theorem dX2_echo_36 : decode cX2_echo 36 = .ok (.iload_n 2, 1) := dk_28 (dk_at dksX2_echo_1 12 rfl rfl)
theorem dX2_echo_37 : decode cX2_echo 37 = .ok (.ifCond .eq 12, 3) := dk_153 0 12 (dk_at dksX2_echo_1 13 rfl rfl)
theorem dX2_echo_40 : decode cX2_echo 40 = .ok (.aload_n 0, 1) := dk_42 (dk_at dksX2_echo_1 16 rfl rfl)
theorem dX2_echo_41 : decode cX2_echo 41 = .ok (.iload 4, 2) := dk_21 4 (dk_at dksX2_echo_1 17 rfl rfl)
theorem dX2_echo_43 : decode cX2_echo 43 = .ok (.invokevirtual 101, 3) := dk_182 0 101 (dk_at dksX2_echo_1 19 rfl rfl)
theorem dX2_echo_46 : decode cX2_echo 46 = .ok (.goto 5, 3) := dk_167 0 5 (dk_at dksX2_echo_2 0 rfl rfl)
theorem dX2_echo_49 : decode cX2_echo 49 = .ok (.iload 4, 2) := dk_21 4 (dk_at dksX2_echo_2 3 rfl rfl)
theorem dX2_echo_51 : decode cX2_echo 51 = .ok (.ireturn, 1) := dk_172 (dk_at dksX2_echo_2 5 rfl rfl)
theorem dX2_echo_52 : decode cX2_echo 52 = .ok (.iinc 3 (-1), 3) := dk_132 3 255 (dk_at dksX2_echo_2 6 rfl rfl)
theorem dX2_echo_55 : decode cX2_echo 55 = .ok (.iinc 4 1, 3) := dk_132 4 1 (dk_at dksX2_echo_2 9 rfl rfl)
theorem dX2_echo_58 : decode cX2_echo 58 = .ok (.goto (-44), 3) := dk_167 255 212 (dk_at dksX2_echo_2 12 rfl rfl)
theorem dX2_echo_61 : decode cX2_echo 61 = .ok (.iconst (-1), 1) := dk_2 (dk_at dksX2_echo_2 15 rfl rfl)
theorem dX2_echo_62 : decode cX2_echo 62 = .ok (.ireturn, 1) := dk_172 (dk_at dksX2_echo_2 16 rfl rfl)
abbrev cX2_chosen : ByteArray := prog_10_method_76_code
def yX2_chosen : MethodName := ⟨RX2, "chosen", "()I"⟩
def dkwX2_chosen_0 : List UInt8 := [42, 182, 1, 0, 153, 0, 7, 3, 167, 0, 7, 42, 182, 0, 110, 172]
abbrev dktX2_chosen_0 : List UInt8 := dkwX2_chosen_0 ++ []
theorem dksX2_chosen_0 : cX2_chosen.data.toList.drop 0 = dktX2_chosen_0 := by decide +kernel
theorem dX2_chosen_0 : decode cX2_chosen 0 = .ok (.aload_n 0, 1) := dk_42 (dk_at dksX2_chosen_0 0 rfl rfl)
theorem dX2_chosen_1 : decode cX2_chosen 1 = .ok (.invokevirtual 256, 3) := dk_182 1 0 (dk_at dksX2_chosen_0 1 rfl rfl)
theorem dX2_chosen_4 : decode cX2_chosen 4 = .ok (.ifCond .eq 7, 3) := dk_153 0 7 (dk_at dksX2_chosen_0 4 rfl rfl)
theorem dX2_chosen_7 : decode cX2_chosen 7 = .ok (.iconst 0, 1) := dk_3 (dk_at dksX2_chosen_0 7 rfl rfl)
theorem dX2_chosen_8 : decode cX2_chosen 8 = .ok (.goto 7, 3) := dk_167 0 7 (dk_at dksX2_chosen_0 8 rfl rfl)
theorem dX2_chosen_11 : decode cX2_chosen 11 = .ok (.aload_n 0, 1) := dk_42 (dk_at dksX2_chosen_0 11 rfl rfl)
theorem dX2_chosen_12 : decode cX2_chosen 12 = .ok (.invokevirtual 110, 3) := dk_182 0 110 (dk_at dksX2_chosen_0 12 rfl rfl)
theorem dX2_chosen_15 : decode cX2_chosen 15 = .ok (.ireturn, 1) := dk_172 (dk_at dksX2_chosen_0 15 rfl rfl)
abbrev cX2_second : ByteArray := prog_10_method_77_code
def yX2_second : MethodName := ⟨RX2, "second", "()I"⟩
def dkwX2_second_1 : List UInt8 := [27, 182, 0, 104, 172]
abbrev dktX2_second_1 : List UInt8 := dkwX2_second_1 ++ []
def dkwX2_second_0 : List UInt8 := [42, 182, 1, 0, 153, 0, 5, 3, 172, 42, 182, 0, 110, 60, 27, 2, 160, 0, 7, 2, 167, 0, 8, 42]
abbrev dktX2_second_0 : List UInt8 := dkwX2_second_0 ++ dktX2_second_1
theorem dksX2_second_0 : cX2_second.data.toList.drop 0 = dktX2_second_0 := by decide +kernel
theorem dksX2_second_1 : cX2_second.data.toList.drop 24 = dktX2_second_1 := dk_seg dksX2_second_0 24 rfl rfl
theorem dX2_second_0 : decode cX2_second 0 = .ok (.aload_n 0, 1) := dk_42 (dk_at dksX2_second_0 0 rfl rfl)
theorem dX2_second_1 : decode cX2_second 1 = .ok (.invokevirtual 256, 3) := dk_182 1 0 (dk_at dksX2_second_0 1 rfl rfl)
theorem dX2_second_4 : decode cX2_second 4 = .ok (.ifCond .eq 5, 3) := dk_153 0 5 (dk_at dksX2_second_0 4 rfl rfl)
theorem dX2_second_7 : decode cX2_second 7 = .ok (.iconst 0, 1) := dk_3 (dk_at dksX2_second_0 7 rfl rfl)
theorem dX2_second_8 : decode cX2_second 8 = .ok (.ireturn, 1) := dk_172 (dk_at dksX2_second_0 8 rfl rfl)
theorem dX2_second_9 : decode cX2_second 9 = .ok (.aload_n 0, 1) := dk_42 (dk_at dksX2_second_0 9 rfl rfl)
theorem dX2_second_10 : decode cX2_second 10 = .ok (.invokevirtual 110, 3) := dk_182 0 110 (dk_at dksX2_second_0 10 rfl rfl)
theorem dX2_second_13 : decode cX2_second 13 = .ok (.istore_n 1, 1) := dk_60 (dk_at dksX2_second_0 13 rfl rfl)
theorem dX2_second_14 : decode cX2_second 14 = .ok (.iload_n 1, 1) := dk_27 (dk_at dksX2_second_0 14 rfl rfl)
theorem dX2_second_15 : decode cX2_second 15 = .ok (.iconst (-1), 1) := dk_2 (dk_at dksX2_second_0 15 rfl rfl)
theorem dX2_second_16 : decode cX2_second 16 = .ok (.if_icmp .ne 7, 3) := dk_160 0 7 (dk_at dksX2_second_0 16 rfl rfl)
theorem dX2_second_19 : decode cX2_second 19 = .ok (.iconst (-1), 1) := dk_2 (dk_at dksX2_second_0 19 rfl rfl)
theorem dX2_second_20 : decode cX2_second 20 = .ok (.goto 8, 3) := dk_167 0 8 (dk_at dksX2_second_0 20 rfl rfl)
theorem dX2_second_23 : decode cX2_second 23 = .ok (.aload_n 0, 1) := dk_42 (dk_at dksX2_second_0 23 rfl rfl)
theorem dX2_second_24 : decode cX2_second 24 = .ok (.iload_n 1, 1) := dk_27 (dk_at dksX2_second_1 0 rfl rfl)
theorem dX2_second_25 : decode cX2_second 25 = .ok (.invokevirtual 104, 3) := dk_182 0 104 (dk_at dksX2_second_1 1 rfl rfl)
theorem dX2_second_28 : decode cX2_second 28 = .ok (.ireturn, 1) := dk_172 (dk_at dksX2_second_1 4 rfl rfl)
abbrev cX2_echoMany : ByteArray := prog_10_method_78_code
def yX2_echoMany : MethodName := ⟨RX2, "echoMany", "(Z)I"⟩
def dkwX2_echoMany_2 : List UInt8 := [184, 0, 75, 96, 61, 132, 3, 1, 167, 255, 214, 28, 172]
abbrev dktX2_echoMany_2 : List UInt8 := dkwX2_echoMany_2 ++ []
def dkwX2_echoMany_1 : List UInt8 := [182, 0, 101, 158, 0, 19, 27, 153, 0, 11, 42, 29, 182, 0, 107, 153, 0, 7, 4, 167, 0, 4, 3]
abbrev dktX2_echoMany_1 : List UInt8 := dkwX2_echoMany_1 ++ dktX2_echoMany_2
def dkwX2_echoMany_0 : List UInt8 := [42, 182, 1, 0, 153, 0, 5, 3, 172, 3, 61, 3, 62, 29, 42, 182, 0, 60, 163, 0, 40, 28, 42, 29]
abbrev dktX2_echoMany_0 : List UInt8 := dkwX2_echoMany_0 ++ dktX2_echoMany_1
theorem dksX2_echoMany_0 : cX2_echoMany.data.toList.drop 0 = dktX2_echoMany_0 := by decide +kernel
theorem dksX2_echoMany_1 : cX2_echoMany.data.toList.drop 24 = dktX2_echoMany_1 := dk_seg dksX2_echoMany_0 24 rfl rfl
theorem dksX2_echoMany_2 : cX2_echoMany.data.toList.drop 47 = dktX2_echoMany_2 := dk_seg dksX2_echoMany_1 23 rfl rfl
theorem dX2_echoMany_0 : decode cX2_echoMany 0 = .ok (.aload_n 0, 1) := dk_42 (dk_at dksX2_echoMany_0 0 rfl rfl)
theorem dX2_echoMany_1 : decode cX2_echoMany 1 = .ok (.invokevirtual 256, 3) := dk_182 1 0 (dk_at dksX2_echoMany_0 1 rfl rfl)
theorem dX2_echoMany_4 : decode cX2_echoMany 4 = .ok (.ifCond .eq 5, 3) := dk_153 0 5 (dk_at dksX2_echoMany_0 4 rfl rfl)
theorem dX2_echoMany_7 : decode cX2_echoMany 7 = .ok (.iconst 0, 1) := dk_3 (dk_at dksX2_echoMany_0 7 rfl rfl)
theorem dX2_echoMany_8 : decode cX2_echoMany 8 = .ok (.ireturn, 1) := dk_172 (dk_at dksX2_echoMany_0 8 rfl rfl)
theorem dX2_echoMany_9 : decode cX2_echoMany 9 = .ok (.iconst 0, 1) := dk_3 (dk_at dksX2_echoMany_0 9 rfl rfl)
theorem dX2_echoMany_10 : decode cX2_echoMany 10 = .ok (.istore_n 2, 1) := dk_61 (dk_at dksX2_echoMany_0 10 rfl rfl)
theorem dX2_echoMany_11 : decode cX2_echoMany 11 = .ok (.iconst 0, 1) := dk_3 (dk_at dksX2_echoMany_0 11 rfl rfl)
theorem dX2_echoMany_12 : decode cX2_echoMany 12 = .ok (.istore_n 3, 1) := dk_62 (dk_at dksX2_echoMany_0 12 rfl rfl)
theorem dX2_echoMany_13 : decode cX2_echoMany 13 = .ok (.iload_n 3, 1) := dk_29 (dk_at dksX2_echoMany_0 13 rfl rfl)
theorem dX2_echoMany_14 : decode cX2_echoMany 14 = .ok (.aload_n 0, 1) := dk_42 (dk_at dksX2_echoMany_0 14 rfl rfl)
theorem dX2_echoMany_15 : decode cX2_echoMany 15 = .ok (.invokevirtual 60, 3) := dk_182 0 60 (dk_at dksX2_echoMany_0 15 rfl rfl)
theorem dX2_echoMany_18 : decode cX2_echoMany 18 = .ok (.if_icmp .gt 40, 3) := dk_163 0 40 (dk_at dksX2_echoMany_0 18 rfl rfl)
theorem dX2_echoMany_21 : decode cX2_echoMany 21 = .ok (.iload_n 2, 1) := dk_28 (dk_at dksX2_echoMany_0 21 rfl rfl)
theorem dX2_echoMany_22 : decode cX2_echoMany 22 = .ok (.aload_n 0, 1) := dk_42 (dk_at dksX2_echoMany_0 22 rfl rfl)
theorem dX2_echoMany_23 : decode cX2_echoMany 23 = .ok (.iload_n 3, 1) := dk_29 (dk_at dksX2_echoMany_0 23 rfl rfl)
theorem dX2_echoMany_24 : decode cX2_echoMany 24 = .ok (.invokevirtual 101, 3) := dk_182 0 101 (dk_at dksX2_echoMany_1 0 rfl rfl)
theorem dX2_echoMany_27 : decode cX2_echoMany 27 = .ok (.ifCond .le 19, 3) := dk_158 0 19 (dk_at dksX2_echoMany_1 3 rfl rfl)
theorem dX2_echoMany_30 : decode cX2_echoMany 30 = .ok (.iload_n 1, 1) := dk_27 (dk_at dksX2_echoMany_1 6 rfl rfl)
theorem dX2_echoMany_31 : decode cX2_echoMany 31 = .ok (.ifCond .eq 11, 3) := dk_153 0 11 (dk_at dksX2_echoMany_1 7 rfl rfl)
theorem dX2_echoMany_34 : decode cX2_echoMany 34 = .ok (.aload_n 0, 1) := dk_42 (dk_at dksX2_echoMany_1 10 rfl rfl)
theorem dX2_echoMany_35 : decode cX2_echoMany 35 = .ok (.iload_n 3, 1) := dk_29 (dk_at dksX2_echoMany_1 11 rfl rfl)
theorem dX2_echoMany_36 : decode cX2_echoMany 36 = .ok (.invokevirtual 107, 3) := dk_182 0 107 (dk_at dksX2_echoMany_1 12 rfl rfl)
theorem dX2_echoMany_39 : decode cX2_echoMany 39 = .ok (.ifCond .eq 7, 3) := dk_153 0 7 (dk_at dksX2_echoMany_1 15 rfl rfl)
theorem dX2_echoMany_42 : decode cX2_echoMany 42 = .ok (.iconst 1, 1) := dk_4 (dk_at dksX2_echoMany_1 18 rfl rfl)
theorem dX2_echoMany_43 : decode cX2_echoMany 43 = .ok (.goto 4, 3) := dk_167 0 4 (dk_at dksX2_echoMany_1 19 rfl rfl)
theorem dX2_echoMany_46 : decode cX2_echoMany 46 = .ok (.iconst 0, 1) := dk_3 (dk_at dksX2_echoMany_1 22 rfl rfl)
theorem dX2_echoMany_47 : decode cX2_echoMany 47 = .ok (.invokestatic 75, 3) := dk_184 0 75 (dk_at dksX2_echoMany_2 0 rfl rfl)
theorem dX2_echoMany_50 : decode cX2_echoMany 50 = .ok (.iadd, 1) := dk_96 (dk_at dksX2_echoMany_2 3 rfl rfl)
theorem dX2_echoMany_51 : decode cX2_echoMany 51 = .ok (.istore_n 2, 1) := dk_61 (dk_at dksX2_echoMany_2 4 rfl rfl)
theorem dX2_echoMany_52 : decode cX2_echoMany 52 = .ok (.iinc 3 1, 3) := dk_132 3 1 (dk_at dksX2_echoMany_2 5 rfl rfl)
theorem dX2_echoMany_55 : decode cX2_echoMany 55 = .ok (.goto (-42), 3) := dk_167 255 214 (dk_at dksX2_echoMany_2 8 rfl rfl)
theorem dX2_echoMany_58 : decode cX2_echoMany 58 = .ok (.iload_n 2, 1) := dk_28 (dk_at dksX2_echoMany_2 11 rfl rfl)
theorem dX2_echoMany_59 : decode cX2_echoMany 59 = .ok (.ireturn, 1) := dk_172 (dk_at dksX2_echoMany_2 12 rfl rfl)
abbrev cX2_deafTo : ByteArray := prog_10_method_79_code
def yX2_deafTo : MethodName := ⟨RX2, "deafTo", "()I"⟩
def dkwX2_deafTo_2 : List UInt8 := [167, 0, 4, 3, 184, 0, 75, 96, 60, 132, 2, 1, 167, 255, 211, 27, 172]
abbrev dktX2_deafTo_2 : List UInt8 := dkwX2_deafTo_2 ++ []
def dkwX2_deafTo_1 : List UInt8 := [27, 42, 28, 182, 0, 95, 153, 0, 19, 42, 42, 28, 182, 0, 89, 182, 0, 101, 154, 0, 7, 4]
abbrev dktX2_deafTo_1 : List UInt8 := dkwX2_deafTo_1 ++ dktX2_deafTo_2
def dkwX2_deafTo_0 : List UInt8 := [42, 182, 1, 0, 153, 0, 5, 3, 172, 3, 60, 3, 61, 28, 42, 180, 0, 7, 16, 21, 46, 162, 0, 40]
abbrev dktX2_deafTo_0 : List UInt8 := dkwX2_deafTo_0 ++ dktX2_deafTo_1
theorem dksX2_deafTo_0 : cX2_deafTo.data.toList.drop 0 = dktX2_deafTo_0 := by decide +kernel
theorem dksX2_deafTo_1 : cX2_deafTo.data.toList.drop 24 = dktX2_deafTo_1 := dk_seg dksX2_deafTo_0 24 rfl rfl
theorem dksX2_deafTo_2 : cX2_deafTo.data.toList.drop 46 = dktX2_deafTo_2 := dk_seg dksX2_deafTo_1 22 rfl rfl
theorem dX2_deafTo_0 : decode cX2_deafTo 0 = .ok (.aload_n 0, 1) := dk_42 (dk_at dksX2_deafTo_0 0 rfl rfl)
theorem dX2_deafTo_1 : decode cX2_deafTo 1 = .ok (.invokevirtual 256, 3) := dk_182 1 0 (dk_at dksX2_deafTo_0 1 rfl rfl)
theorem dX2_deafTo_4 : decode cX2_deafTo 4 = .ok (.ifCond .eq 5, 3) := dk_153 0 5 (dk_at dksX2_deafTo_0 4 rfl rfl)
theorem dX2_deafTo_7 : decode cX2_deafTo 7 = .ok (.iconst 0, 1) := dk_3 (dk_at dksX2_deafTo_0 7 rfl rfl)
theorem dX2_deafTo_8 : decode cX2_deafTo 8 = .ok (.ireturn, 1) := dk_172 (dk_at dksX2_deafTo_0 8 rfl rfl)
theorem dX2_deafTo_9 : decode cX2_deafTo 9 = .ok (.iconst 0, 1) := dk_3 (dk_at dksX2_deafTo_0 9 rfl rfl)
theorem dX2_deafTo_10 : decode cX2_deafTo 10 = .ok (.istore_n 1, 1) := dk_60 (dk_at dksX2_deafTo_0 10 rfl rfl)
theorem dX2_deafTo_11 : decode cX2_deafTo 11 = .ok (.iconst 0, 1) := dk_3 (dk_at dksX2_deafTo_0 11 rfl rfl)
theorem dX2_deafTo_12 : decode cX2_deafTo 12 = .ok (.istore_n 2, 1) := dk_61 (dk_at dksX2_deafTo_0 12 rfl rfl)
theorem dX2_deafTo_13 : decode cX2_deafTo 13 = .ok (.iload_n 2, 1) := dk_28 (dk_at dksX2_deafTo_0 13 rfl rfl)
theorem dX2_deafTo_14 : decode cX2_deafTo 14 = .ok (.aload_n 0, 1) := dk_42 (dk_at dksX2_deafTo_0 14 rfl rfl)
theorem dX2_deafTo_15 : decode cX2_deafTo 15 = .ok (.getfield 7, 3) := dk_180 0 7 (dk_at dksX2_deafTo_0 15 rfl rfl)
theorem dX2_deafTo_18 : decode cX2_deafTo 18 = .ok (.bipush 21, 2) := dk_16 21 (dk_at dksX2_deafTo_0 18 rfl rfl)
theorem dX2_deafTo_20 : decode cX2_deafTo 20 = .ok (.iaload, 1) := dk_46 (dk_at dksX2_deafTo_0 20 rfl rfl)
theorem dX2_deafTo_21 : decode cX2_deafTo 21 = .ok (.if_icmp .ge 40, 3) := dk_162 0 40 (dk_at dksX2_deafTo_0 21 rfl rfl)
theorem dX2_deafTo_24 : decode cX2_deafTo 24 = .ok (.iload_n 1, 1) := dk_27 (dk_at dksX2_deafTo_1 0 rfl rfl)
theorem dX2_deafTo_25 : decode cX2_deafTo 25 = .ok (.aload_n 0, 1) := dk_42 (dk_at dksX2_deafTo_1 1 rfl rfl)
theorem dX2_deafTo_26 : decode cX2_deafTo 26 = .ok (.iload_n 2, 1) := dk_28 (dk_at dksX2_deafTo_1 2 rfl rfl)
theorem dX2_deafTo_27 : decode cX2_deafTo 27 = .ok (.invokevirtual 95, 3) := dk_182 0 95 (dk_at dksX2_deafTo_1 3 rfl rfl)
theorem dX2_deafTo_30 : decode cX2_deafTo 30 = .ok (.ifCond .eq 19, 3) := dk_153 0 19 (dk_at dksX2_deafTo_1 6 rfl rfl)
theorem dX2_deafTo_33 : decode cX2_deafTo 33 = .ok (.aload_n 0, 1) := dk_42 (dk_at dksX2_deafTo_1 9 rfl rfl)
theorem dX2_deafTo_34 : decode cX2_deafTo 34 = .ok (.aload_n 0, 1) := dk_42 (dk_at dksX2_deafTo_1 10 rfl rfl)
theorem dX2_deafTo_35 : decode cX2_deafTo 35 = .ok (.iload_n 2, 1) := dk_28 (dk_at dksX2_deafTo_1 11 rfl rfl)
theorem dX2_deafTo_36 : decode cX2_deafTo 36 = .ok (.invokevirtual 89, 3) := dk_182 0 89 (dk_at dksX2_deafTo_1 12 rfl rfl)
theorem dX2_deafTo_39 : decode cX2_deafTo 39 = .ok (.invokevirtual 101, 3) := dk_182 0 101 (dk_at dksX2_deafTo_1 15 rfl rfl)
theorem dX2_deafTo_42 : decode cX2_deafTo 42 = .ok (.ifCond .ne 7, 3) := dk_154 0 7 (dk_at dksX2_deafTo_1 18 rfl rfl)
theorem dX2_deafTo_45 : decode cX2_deafTo 45 = .ok (.iconst 1, 1) := dk_4 (dk_at dksX2_deafTo_1 21 rfl rfl)
theorem dX2_deafTo_46 : decode cX2_deafTo 46 = .ok (.goto 4, 3) := dk_167 0 4 (dk_at dksX2_deafTo_2 0 rfl rfl)
theorem dX2_deafTo_49 : decode cX2_deafTo 49 = .ok (.iconst 0, 1) := dk_3 (dk_at dksX2_deafTo_2 3 rfl rfl)
theorem dX2_deafTo_50 : decode cX2_deafTo 50 = .ok (.invokestatic 75, 3) := dk_184 0 75 (dk_at dksX2_deafTo_2 4 rfl rfl)
theorem dX2_deafTo_53 : decode cX2_deafTo 53 = .ok (.iadd, 1) := dk_96 (dk_at dksX2_deafTo_2 7 rfl rfl)
theorem dX2_deafTo_54 : decode cX2_deafTo 54 = .ok (.istore_n 1, 1) := dk_60 (dk_at dksX2_deafTo_2 8 rfl rfl)
theorem dX2_deafTo_55 : decode cX2_deafTo 55 = .ok (.iinc 2 1, 3) := dk_132 2 1 (dk_at dksX2_deafTo_2 9 rfl rfl)
theorem dX2_deafTo_58 : decode cX2_deafTo 58 = .ok (.goto (-45), 3) := dk_167 255 211 (dk_at dksX2_deafTo_2 12 rfl rfl)
theorem dX2_deafTo_61 : decode cX2_deafTo 61 = .ok (.iload_n 1, 1) := dk_27 (dk_at dksX2_deafTo_2 15 rfl rfl)
theorem dX2_deafTo_62 : decode cX2_deafTo 62 = .ok (.ireturn, 1) := dk_172 (dk_at dksX2_deafTo_2 16 rfl rfl)
abbrev cX2_whyNotHeap : ByteArray := prog_10_method_80_code
def yX2_whyNotHeap : MethodName := ⟨RX2, "whyNotHeap", "()I"⟩
def dkwX2_whyNotHeap_2 : List UInt8 := [6, 172]
abbrev dktX2_whyNotHeap_2 : List UInt8 := dkwX2_whyNotHeap_2 ++ []
def dkwX2_whyNotHeap_1 : List UInt8 := [42, 27, 182, 0, 107, 153, 0, 7, 5, 167, 0, 16, 42, 182, 0, 110, 27, 160, 0, 7, 3, 167, 0, 4]
abbrev dktX2_whyNotHeap_1 : List UInt8 := dkwX2_whyNotHeap_1 ++ dktX2_whyNotHeap_2
def dkwX2_whyNotHeap_0 : List UInt8 := [42, 182, 1, 0, 153, 0, 5, 3, 172, 42, 182, 0, 83, 60, 42, 27, 182, 0, 101, 154, 0, 5, 4, 172]
abbrev dktX2_whyNotHeap_0 : List UInt8 := dkwX2_whyNotHeap_0 ++ dktX2_whyNotHeap_1
theorem dksX2_whyNotHeap_0 : cX2_whyNotHeap.data.toList.drop 0 = dktX2_whyNotHeap_0 := by decide +kernel
theorem dksX2_whyNotHeap_1 : cX2_whyNotHeap.data.toList.drop 24 = dktX2_whyNotHeap_1 := dk_seg dksX2_whyNotHeap_0 24 rfl rfl
theorem dksX2_whyNotHeap_2 : cX2_whyNotHeap.data.toList.drop 48 = dktX2_whyNotHeap_2 := dk_seg dksX2_whyNotHeap_1 24 rfl rfl
theorem dX2_whyNotHeap_0 : decode cX2_whyNotHeap 0 = .ok (.aload_n 0, 1) := dk_42 (dk_at dksX2_whyNotHeap_0 0 rfl rfl)
theorem dX2_whyNotHeap_1 : decode cX2_whyNotHeap 1 = .ok (.invokevirtual 256, 3) := dk_182 1 0 (dk_at dksX2_whyNotHeap_0 1 rfl rfl)
theorem dX2_whyNotHeap_4 : decode cX2_whyNotHeap 4 = .ok (.ifCond .eq 5, 3) := dk_153 0 5 (dk_at dksX2_whyNotHeap_0 4 rfl rfl)
theorem dX2_whyNotHeap_7 : decode cX2_whyNotHeap 7 = .ok (.iconst 0, 1) := dk_3 (dk_at dksX2_whyNotHeap_0 7 rfl rfl)
theorem dX2_whyNotHeap_8 : decode cX2_whyNotHeap 8 = .ok (.ireturn, 1) := dk_172 (dk_at dksX2_whyNotHeap_0 8 rfl rfl)
theorem dX2_whyNotHeap_9 : decode cX2_whyNotHeap 9 = .ok (.aload_n 0, 1) := dk_42 (dk_at dksX2_whyNotHeap_0 9 rfl rfl)
theorem dX2_whyNotHeap_10 : decode cX2_whyNotHeap 10 = .ok (.invokevirtual 83, 3) := dk_182 0 83 (dk_at dksX2_whyNotHeap_0 10 rfl rfl)
theorem dX2_whyNotHeap_13 : decode cX2_whyNotHeap 13 = .ok (.istore_n 1, 1) := dk_60 (dk_at dksX2_whyNotHeap_0 13 rfl rfl)
theorem dX2_whyNotHeap_14 : decode cX2_whyNotHeap 14 = .ok (.aload_n 0, 1) := dk_42 (dk_at dksX2_whyNotHeap_0 14 rfl rfl)
theorem dX2_whyNotHeap_15 : decode cX2_whyNotHeap 15 = .ok (.iload_n 1, 1) := dk_27 (dk_at dksX2_whyNotHeap_0 15 rfl rfl)
theorem dX2_whyNotHeap_16 : decode cX2_whyNotHeap 16 = .ok (.invokevirtual 101, 3) := dk_182 0 101 (dk_at dksX2_whyNotHeap_0 16 rfl rfl)
theorem dX2_whyNotHeap_19 : decode cX2_whyNotHeap 19 = .ok (.ifCond .ne 5, 3) := dk_154 0 5 (dk_at dksX2_whyNotHeap_0 19 rfl rfl)
theorem dX2_whyNotHeap_22 : decode cX2_whyNotHeap 22 = .ok (.iconst 1, 1) := dk_4 (dk_at dksX2_whyNotHeap_0 22 rfl rfl)
theorem dX2_whyNotHeap_23 : decode cX2_whyNotHeap 23 = .ok (.ireturn, 1) := dk_172 (dk_at dksX2_whyNotHeap_0 23 rfl rfl)
theorem dX2_whyNotHeap_24 : decode cX2_whyNotHeap 24 = .ok (.aload_n 0, 1) := dk_42 (dk_at dksX2_whyNotHeap_1 0 rfl rfl)
theorem dX2_whyNotHeap_25 : decode cX2_whyNotHeap 25 = .ok (.iload_n 1, 1) := dk_27 (dk_at dksX2_whyNotHeap_1 1 rfl rfl)
theorem dX2_whyNotHeap_26 : decode cX2_whyNotHeap 26 = .ok (.invokevirtual 107, 3) := dk_182 0 107 (dk_at dksX2_whyNotHeap_1 2 rfl rfl)
theorem dX2_whyNotHeap_29 : decode cX2_whyNotHeap 29 = .ok (.ifCond .eq 7, 3) := dk_153 0 7 (dk_at dksX2_whyNotHeap_1 5 rfl rfl)
theorem dX2_whyNotHeap_32 : decode cX2_whyNotHeap 32 = .ok (.iconst 2, 1) := dk_5 (dk_at dksX2_whyNotHeap_1 8 rfl rfl)
theorem dX2_whyNotHeap_33 : decode cX2_whyNotHeap 33 = .ok (.goto 16, 3) := dk_167 0 16 (dk_at dksX2_whyNotHeap_1 9 rfl rfl)
theorem dX2_whyNotHeap_36 : decode cX2_whyNotHeap 36 = .ok (.aload_n 0, 1) := dk_42 (dk_at dksX2_whyNotHeap_1 12 rfl rfl)
theorem dX2_whyNotHeap_37 : decode cX2_whyNotHeap 37 = .ok (.invokevirtual 110, 3) := dk_182 0 110 (dk_at dksX2_whyNotHeap_1 13 rfl rfl)
theorem dX2_whyNotHeap_40 : decode cX2_whyNotHeap 40 = .ok (.iload_n 1, 1) := dk_27 (dk_at dksX2_whyNotHeap_1 16 rfl rfl)
theorem dX2_whyNotHeap_41 : decode cX2_whyNotHeap 41 = .ok (.if_icmp .ne 7, 3) := dk_160 0 7 (dk_at dksX2_whyNotHeap_1 17 rfl rfl)
theorem dX2_whyNotHeap_44 : decode cX2_whyNotHeap 44 = .ok (.iconst 0, 1) := dk_3 (dk_at dksX2_whyNotHeap_1 20 rfl rfl)
theorem dX2_whyNotHeap_45 : decode cX2_whyNotHeap 45 = .ok (.goto 4, 3) := dk_167 0 4 (dk_at dksX2_whyNotHeap_1 21 rfl rfl)
theorem dX2_whyNotHeap_48 : decode cX2_whyNotHeap 48 = .ok (.iconst 3, 1) := dk_6 (dk_at dksX2_whyNotHeap_2 0 rfl rfl)
theorem dX2_whyNotHeap_49 : decode cX2_whyNotHeap 49 = .ok (.ireturn, 1) := dk_172 (dk_at dksX2_whyNotHeap_2 1 rfl rfl)
abbrev cX2_error : ByteArray := prog_10_method_81_code
def yX2_error : MethodName := ⟨RX2, "error", "()I"⟩
def dkwX2_error_1 : List UInt8 := [42, 180, 0, 7, 16, 10, 46, 42, 182, 1, 26, 100, 184, 0, 113, 172]
abbrev dktX2_error_1 : List UInt8 := dkwX2_error_1 ++ []
def dkwX2_error_0 : List UInt8 := [42, 182, 1, 0, 153, 0, 5, 3, 172, 42, 180, 0, 7, 16, 10, 46, 2, 160, 0, 7, 2, 167, 0, 18]
abbrev dktX2_error_0 : List UInt8 := dkwX2_error_0 ++ dktX2_error_1
theorem dksX2_error_0 : cX2_error.data.toList.drop 0 = dktX2_error_0 := by decide +kernel
theorem dksX2_error_1 : cX2_error.data.toList.drop 24 = dktX2_error_1 := dk_seg dksX2_error_0 24 rfl rfl
theorem dX2_error_0 : decode cX2_error 0 = .ok (.aload_n 0, 1) := dk_42 (dk_at dksX2_error_0 0 rfl rfl)
theorem dX2_error_1 : decode cX2_error 1 = .ok (.invokevirtual 256, 3) := dk_182 1 0 (dk_at dksX2_error_0 1 rfl rfl)
theorem dX2_error_4 : decode cX2_error 4 = .ok (.ifCond .eq 5, 3) := dk_153 0 5 (dk_at dksX2_error_0 4 rfl rfl)
theorem dX2_error_7 : decode cX2_error 7 = .ok (.iconst 0, 1) := dk_3 (dk_at dksX2_error_0 7 rfl rfl)
theorem dX2_error_8 : decode cX2_error 8 = .ok (.ireturn, 1) := dk_172 (dk_at dksX2_error_0 8 rfl rfl)
theorem dX2_error_9 : decode cX2_error 9 = .ok (.aload_n 0, 1) := dk_42 (dk_at dksX2_error_0 9 rfl rfl)
theorem dX2_error_10 : decode cX2_error 10 = .ok (.getfield 7, 3) := dk_180 0 7 (dk_at dksX2_error_0 10 rfl rfl)
theorem dX2_error_13 : decode cX2_error 13 = .ok (.bipush 10, 2) := dk_16 10 (dk_at dksX2_error_0 13 rfl rfl)
theorem dX2_error_15 : decode cX2_error 15 = .ok (.iaload, 1) := dk_46 (dk_at dksX2_error_0 15 rfl rfl)
theorem dX2_error_16 : decode cX2_error 16 = .ok (.iconst (-1), 1) := dk_2 (dk_at dksX2_error_0 16 rfl rfl)
theorem dX2_error_17 : decode cX2_error 17 = .ok (.if_icmp .ne 7, 3) := dk_160 0 7 (dk_at dksX2_error_0 17 rfl rfl)
theorem dX2_error_20 : decode cX2_error 20 = .ok (.iconst (-1), 1) := dk_2 (dk_at dksX2_error_0 20 rfl rfl)
theorem dX2_error_21 : decode cX2_error 21 = .ok (.goto 18, 3) := dk_167 0 18 (dk_at dksX2_error_0 21 rfl rfl)
theorem dX2_error_24 : decode cX2_error 24 = .ok (.aload_n 0, 1) := dk_42 (dk_at dksX2_error_1 0 rfl rfl)
theorem dX2_error_25 : decode cX2_error 25 = .ok (.getfield 7, 3) := dk_180 0 7 (dk_at dksX2_error_1 1 rfl rfl)
theorem dX2_error_28 : decode cX2_error 28 = .ok (.bipush 10, 2) := dk_16 10 (dk_at dksX2_error_1 4 rfl rfl)
theorem dX2_error_30 : decode cX2_error 30 = .ok (.iaload, 1) := dk_46 (dk_at dksX2_error_1 6 rfl rfl)
theorem dX2_error_31 : decode cX2_error 31 = .ok (.aload_n 0, 1) := dk_42 (dk_at dksX2_error_1 7 rfl rfl)
theorem dX2_error_32 : decode cX2_error 32 = .ok (.invokevirtual 282, 3) := dk_182 1 26 (dk_at dksX2_error_1 8 rfl rfl)
theorem dX2_error_35 : decode cX2_error 35 = .ok (.isub, 1) := dk_100 (dk_at dksX2_error_1 11 rfl rfl)
theorem dX2_error_36 : decode cX2_error 36 = .ok (.invokestatic 113, 3) := dk_184 0 113 (dk_at dksX2_error_1 12 rfl rfl)
theorem dX2_error_39 : decode cX2_error 39 = .ok (.ireturn, 1) := dk_172 (dk_at dksX2_error_1 15 rfl rfl)
abbrev cX2_whyNotBelieved : ByteArray := prog_10_method_82_code
def yX2_whyNotBelieved : MethodName := ⟨RX2, "whyNotBelieved", "()I"⟩
def dkwX2_whyNotBelieved_2 : List UInt8 := [46, 42, 182, 1, 26, 160, 0, 7, 3, 167, 0, 4, 6, 182, 0, 250, 172]
abbrev dktX2_whyNotBelieved_2 : List UInt8 := dkwX2_whyNotBelieved_2 ++ []
def dkwX2_whyNotBelieved_1 : List UInt8 := [160, 0, 7, 4, 167, 0, 4, 5, 172, 42, 182, 0, 244, 42, 182, 0, 227, 42, 42, 180, 0, 7, 16, 10]
abbrev dktX2_whyNotBelieved_1 : List UInt8 := dkwX2_whyNotBelieved_1 ++ dktX2_whyNotBelieved_2
def dkwX2_whyNotBelieved_0 : List UInt8 := [42, 182, 1, 0, 153, 0, 5, 3, 172, 42, 182, 0, 110, 60, 27, 42, 182, 0, 83, 159, 0, 14, 27, 2]
abbrev dktX2_whyNotBelieved_0 : List UInt8 := dkwX2_whyNotBelieved_0 ++ dktX2_whyNotBelieved_1
theorem dksX2_whyNotBelieved_0 : cX2_whyNotBelieved.data.toList.drop 0 = dktX2_whyNotBelieved_0 := by decide +kernel
theorem dksX2_whyNotBelieved_1 : cX2_whyNotBelieved.data.toList.drop 24 = dktX2_whyNotBelieved_1 := dk_seg dksX2_whyNotBelieved_0 24 rfl rfl
theorem dksX2_whyNotBelieved_2 : cX2_whyNotBelieved.data.toList.drop 48 = dktX2_whyNotBelieved_2 := dk_seg dksX2_whyNotBelieved_1 24 rfl rfl
theorem dX2_whyNotBelieved_0 : decode cX2_whyNotBelieved 0 = .ok (.aload_n 0, 1) := dk_42 (dk_at dksX2_whyNotBelieved_0 0 rfl rfl)
theorem dX2_whyNotBelieved_1 : decode cX2_whyNotBelieved 1 = .ok (.invokevirtual 256, 3) := dk_182 1 0 (dk_at dksX2_whyNotBelieved_0 1 rfl rfl)
theorem dX2_whyNotBelieved_4 : decode cX2_whyNotBelieved 4 = .ok (.ifCond .eq 5, 3) := dk_153 0 5 (dk_at dksX2_whyNotBelieved_0 4 rfl rfl)
theorem dX2_whyNotBelieved_7 : decode cX2_whyNotBelieved 7 = .ok (.iconst 0, 1) := dk_3 (dk_at dksX2_whyNotBelieved_0 7 rfl rfl)
theorem dX2_whyNotBelieved_8 : decode cX2_whyNotBelieved 8 = .ok (.ireturn, 1) := dk_172 (dk_at dksX2_whyNotBelieved_0 8 rfl rfl)
theorem dX2_whyNotBelieved_9 : decode cX2_whyNotBelieved 9 = .ok (.aload_n 0, 1) := dk_42 (dk_at dksX2_whyNotBelieved_0 9 rfl rfl)
theorem dX2_whyNotBelieved_10 : decode cX2_whyNotBelieved 10 = .ok (.invokevirtual 110, 3) := dk_182 0 110 (dk_at dksX2_whyNotBelieved_0 10 rfl rfl)
theorem dX2_whyNotBelieved_13 : decode cX2_whyNotBelieved 13 = .ok (.istore_n 1, 1) := dk_60 (dk_at dksX2_whyNotBelieved_0 13 rfl rfl)
theorem dX2_whyNotBelieved_14 : decode cX2_whyNotBelieved 14 = .ok (.iload_n 1, 1) := dk_27 (dk_at dksX2_whyNotBelieved_0 14 rfl rfl)
theorem dX2_whyNotBelieved_15 : decode cX2_whyNotBelieved 15 = .ok (.aload_n 0, 1) := dk_42 (dk_at dksX2_whyNotBelieved_0 15 rfl rfl)
theorem dX2_whyNotBelieved_16 : decode cX2_whyNotBelieved 16 = .ok (.invokevirtual 83, 3) := dk_182 0 83 (dk_at dksX2_whyNotBelieved_0 16 rfl rfl)
theorem dX2_whyNotBelieved_19 : decode cX2_whyNotBelieved 19 = .ok (.if_icmp .eq 14, 3) := dk_159 0 14 (dk_at dksX2_whyNotBelieved_0 19 rfl rfl)
theorem dX2_whyNotBelieved_22 : decode cX2_whyNotBelieved 22 = .ok (.iload_n 1, 1) := dk_27 (dk_at dksX2_whyNotBelieved_0 22 rfl rfl)
theorem dX2_whyNotBelieved_23 : decode cX2_whyNotBelieved 23 = .ok (.iconst (-1), 1) := dk_2 (dk_at dksX2_whyNotBelieved_0 23 rfl rfl)
theorem dX2_whyNotBelieved_24 : decode cX2_whyNotBelieved 24 = .ok (.if_icmp .ne 7, 3) := dk_160 0 7 (dk_at dksX2_whyNotBelieved_1 0 rfl rfl)
theorem dX2_whyNotBelieved_27 : decode cX2_whyNotBelieved 27 = .ok (.iconst 1, 1) := dk_4 (dk_at dksX2_whyNotBelieved_1 3 rfl rfl)
theorem dX2_whyNotBelieved_28 : decode cX2_whyNotBelieved 28 = .ok (.goto 4, 3) := dk_167 0 4 (dk_at dksX2_whyNotBelieved_1 4 rfl rfl)
theorem dX2_whyNotBelieved_31 : decode cX2_whyNotBelieved 31 = .ok (.iconst 2, 1) := dk_5 (dk_at dksX2_whyNotBelieved_1 7 rfl rfl)
theorem dX2_whyNotBelieved_32 : decode cX2_whyNotBelieved 32 = .ok (.ireturn, 1) := dk_172 (dk_at dksX2_whyNotBelieved_1 8 rfl rfl)
theorem dX2_whyNotBelieved_33 : decode cX2_whyNotBelieved 33 = .ok (.aload_n 0, 1) := dk_42 (dk_at dksX2_whyNotBelieved_1 9 rfl rfl)
theorem dX2_whyNotBelieved_34 : decode cX2_whyNotBelieved 34 = .ok (.invokevirtual 244, 3) := dk_182 0 244 (dk_at dksX2_whyNotBelieved_1 10 rfl rfl)
theorem dX2_whyNotBelieved_37 : decode cX2_whyNotBelieved 37 = .ok (.aload_n 0, 1) := dk_42 (dk_at dksX2_whyNotBelieved_1 13 rfl rfl)
theorem dX2_whyNotBelieved_38 : decode cX2_whyNotBelieved 38 = .ok (.invokevirtual 227, 3) := dk_182 0 227 (dk_at dksX2_whyNotBelieved_1 14 rfl rfl)
theorem dX2_whyNotBelieved_41 : decode cX2_whyNotBelieved 41 = .ok (.aload_n 0, 1) := dk_42 (dk_at dksX2_whyNotBelieved_1 17 rfl rfl)
theorem dX2_whyNotBelieved_42 : decode cX2_whyNotBelieved 42 = .ok (.aload_n 0, 1) := dk_42 (dk_at dksX2_whyNotBelieved_1 18 rfl rfl)
theorem dX2_whyNotBelieved_43 : decode cX2_whyNotBelieved 43 = .ok (.getfield 7, 3) := dk_180 0 7 (dk_at dksX2_whyNotBelieved_1 19 rfl rfl)
theorem dX2_whyNotBelieved_46 : decode cX2_whyNotBelieved 46 = .ok (.bipush 10, 2) := dk_16 10 (dk_at dksX2_whyNotBelieved_1 22 rfl rfl)
theorem dX2_whyNotBelieved_48 : decode cX2_whyNotBelieved 48 = .ok (.iaload, 1) := dk_46 (dk_at dksX2_whyNotBelieved_2 0 rfl rfl)
theorem dX2_whyNotBelieved_49 : decode cX2_whyNotBelieved 49 = .ok (.aload_n 0, 1) := dk_42 (dk_at dksX2_whyNotBelieved_2 1 rfl rfl)
theorem dX2_whyNotBelieved_50 : decode cX2_whyNotBelieved 50 = .ok (.invokevirtual 282, 3) := dk_182 1 26 (dk_at dksX2_whyNotBelieved_2 2 rfl rfl)
theorem dX2_whyNotBelieved_53 : decode cX2_whyNotBelieved 53 = .ok (.if_icmp .ne 7, 3) := dk_160 0 7 (dk_at dksX2_whyNotBelieved_2 5 rfl rfl)
theorem dX2_whyNotBelieved_56 : decode cX2_whyNotBelieved 56 = .ok (.iconst 0, 1) := dk_3 (dk_at dksX2_whyNotBelieved_2 8 rfl rfl)
theorem dX2_whyNotBelieved_57 : decode cX2_whyNotBelieved 57 = .ok (.goto 4, 3) := dk_167 0 4 (dk_at dksX2_whyNotBelieved_2 9 rfl rfl)
theorem dX2_whyNotBelieved_60 : decode cX2_whyNotBelieved 60 = .ok (.iconst 3, 1) := dk_6 (dk_at dksX2_whyNotBelieved_2 12 rfl rfl)
theorem dX2_whyNotBelieved_61 : decode cX2_whyNotBelieved 61 = .ok (.invokevirtual 250, 3) := dk_182 0 250 (dk_at dksX2_whyNotBelieved_2 13 rfl rfl)
theorem dX2_whyNotBelieved_64 : decode cX2_whyNotBelieved 64 = .ok (.ireturn, 1) := dk_172 (dk_at dksX2_whyNotBelieved_2 16 rfl rfl)
abbrev cX2_levelAfter : ByteArray := prog_10_method_84_code
def yX2_levelAfter : MethodName := ⟨RX2, "levelAfter", "(I)I"⟩
def dkwX2_levelAfter_2 : List UInt8 := [46, 182, 0, 250, 172]
abbrev dktX2_levelAfter_2 : List UInt8 := dkwX2_levelAfter_2 ++ []
def dkwX2_levelAfter_1 : List UInt8 := [3, 61, 28, 27, 162, 0, 13, 42, 182, 0, 227, 132, 2, 1, 167, 255, 244, 42, 42, 180, 0, 7, 16, 10]
abbrev dktX2_levelAfter_1 : List UInt8 := dkwX2_levelAfter_1 ++ dktX2_levelAfter_2
def dkwX2_levelAfter_0 : List UInt8 := [42, 182, 1, 0, 154, 0, 14, 42, 27, 16, 30, 5, 182, 1, 29, 153, 0, 5, 3, 172, 42, 182, 0, 244]
abbrev dktX2_levelAfter_0 : List UInt8 := dkwX2_levelAfter_0 ++ dktX2_levelAfter_1
theorem dksX2_levelAfter_0 : cX2_levelAfter.data.toList.drop 0 = dktX2_levelAfter_0 := by decide +kernel
theorem dksX2_levelAfter_1 : cX2_levelAfter.data.toList.drop 24 = dktX2_levelAfter_1 := dk_seg dksX2_levelAfter_0 24 rfl rfl
theorem dksX2_levelAfter_2 : cX2_levelAfter.data.toList.drop 48 = dktX2_levelAfter_2 := dk_seg dksX2_levelAfter_1 24 rfl rfl
theorem dX2_levelAfter_0 : decode cX2_levelAfter 0 = .ok (.aload_n 0, 1) := dk_42 (dk_at dksX2_levelAfter_0 0 rfl rfl)
theorem dX2_levelAfter_1 : decode cX2_levelAfter 1 = .ok (.invokevirtual 256, 3) := dk_182 1 0 (dk_at dksX2_levelAfter_0 1 rfl rfl)
theorem dX2_levelAfter_4 : decode cX2_levelAfter 4 = .ok (.ifCond .ne 14, 3) := dk_154 0 14 (dk_at dksX2_levelAfter_0 4 rfl rfl)
theorem dX2_levelAfter_7 : decode cX2_levelAfter 7 = .ok (.aload_n 0, 1) := dk_42 (dk_at dksX2_levelAfter_0 7 rfl rfl)
theorem dX2_levelAfter_8 : decode cX2_levelAfter 8 = .ok (.iload_n 1, 1) := dk_27 (dk_at dksX2_levelAfter_0 8 rfl rfl)
theorem dX2_levelAfter_9 : decode cX2_levelAfter 9 = .ok (.bipush 30, 2) := dk_16 30 (dk_at dksX2_levelAfter_0 9 rfl rfl)
theorem dX2_levelAfter_11 : decode cX2_levelAfter 11 = .ok (.iconst 2, 1) := dk_5 (dk_at dksX2_levelAfter_0 11 rfl rfl)
theorem dX2_levelAfter_12 : decode cX2_levelAfter 12 = .ok (.invokevirtual 285, 3) := dk_182 1 29 (dk_at dksX2_levelAfter_0 12 rfl rfl)
theorem dX2_levelAfter_15 : decode cX2_levelAfter 15 = .ok (.ifCond .eq 5, 3) := dk_153 0 5 (dk_at dksX2_levelAfter_0 15 rfl rfl)
theorem dX2_levelAfter_18 : decode cX2_levelAfter 18 = .ok (.iconst 0, 1) := dk_3 (dk_at dksX2_levelAfter_0 18 rfl rfl)
theorem dX2_levelAfter_19 : decode cX2_levelAfter 19 = .ok (.ireturn, 1) := dk_172 (dk_at dksX2_levelAfter_0 19 rfl rfl)
theorem dX2_levelAfter_20 : decode cX2_levelAfter 20 = .ok (.aload_n 0, 1) := dk_42 (dk_at dksX2_levelAfter_0 20 rfl rfl)
theorem dX2_levelAfter_21 : decode cX2_levelAfter 21 = .ok (.invokevirtual 244, 3) := dk_182 0 244 (dk_at dksX2_levelAfter_0 21 rfl rfl)
theorem dX2_levelAfter_24 : decode cX2_levelAfter 24 = .ok (.iconst 0, 1) := dk_3 (dk_at dksX2_levelAfter_1 0 rfl rfl)
theorem dX2_levelAfter_25 : decode cX2_levelAfter 25 = .ok (.istore_n 2, 1) := dk_61 (dk_at dksX2_levelAfter_1 1 rfl rfl)
theorem dX2_levelAfter_26 : decode cX2_levelAfter 26 = .ok (.iload_n 2, 1) := dk_28 (dk_at dksX2_levelAfter_1 2 rfl rfl)
theorem dX2_levelAfter_27 : decode cX2_levelAfter 27 = .ok (.iload_n 1, 1) := dk_27 (dk_at dksX2_levelAfter_1 3 rfl rfl)
theorem dX2_levelAfter_28 : decode cX2_levelAfter 28 = .ok (.if_icmp .ge 13, 3) := dk_162 0 13 (dk_at dksX2_levelAfter_1 4 rfl rfl)
theorem dX2_levelAfter_31 : decode cX2_levelAfter 31 = .ok (.aload_n 0, 1) := dk_42 (dk_at dksX2_levelAfter_1 7 rfl rfl)
theorem dX2_levelAfter_32 : decode cX2_levelAfter 32 = .ok (.invokevirtual 227, 3) := dk_182 0 227 (dk_at dksX2_levelAfter_1 8 rfl rfl)
theorem dX2_levelAfter_35 : decode cX2_levelAfter 35 = .ok (.iinc 2 1, 3) := dk_132 2 1 (dk_at dksX2_levelAfter_1 11 rfl rfl)
theorem dX2_levelAfter_38 : decode cX2_levelAfter 38 = .ok (.goto (-12), 3) := dk_167 255 244 (dk_at dksX2_levelAfter_1 14 rfl rfl)
theorem dX2_levelAfter_41 : decode cX2_levelAfter 41 = .ok (.aload_n 0, 1) := dk_42 (dk_at dksX2_levelAfter_1 17 rfl rfl)
theorem dX2_levelAfter_42 : decode cX2_levelAfter 42 = .ok (.aload_n 0, 1) := dk_42 (dk_at dksX2_levelAfter_1 18 rfl rfl)
theorem dX2_levelAfter_43 : decode cX2_levelAfter 43 = .ok (.getfield 7, 3) := dk_180 0 7 (dk_at dksX2_levelAfter_1 19 rfl rfl)
theorem dX2_levelAfter_46 : decode cX2_levelAfter 46 = .ok (.bipush 10, 2) := dk_16 10 (dk_at dksX2_levelAfter_1 22 rfl rfl)
theorem dX2_levelAfter_48 : decode cX2_levelAfter 48 = .ok (.iaload, 1) := dk_46 (dk_at dksX2_levelAfter_2 0 rfl rfl)
theorem dX2_levelAfter_49 : decode cX2_levelAfter 49 = .ok (.invokevirtual 250, 3) := dk_182 0 250 (dk_at dksX2_levelAfter_2 1 rfl rfl)
theorem dX2_levelAfter_52 : decode cX2_levelAfter 52 = .ok (.ireturn, 1) := dk_172 (dk_at dksX2_levelAfter_2 4 rfl rfl)
abbrev cX2_noMany : ByteArray := prog_10_method_83_code
def yX2_noMany : MethodName := ⟨RX2, "noMany", "(III)Z"⟩
def dkwX2_noMany_0 : List UInt8 := [42, 27, 133, 10, 28, 133, 184, 0, 170, 154, 0, 7, 4, 167, 0, 4, 3, 29, 182, 0, 37, 172]
abbrev dktX2_noMany_0 : List UInt8 := dkwX2_noMany_0 ++ []
theorem dksX2_noMany_0 : cX2_noMany.data.toList.drop 0 = dktX2_noMany_0 := by decide +kernel
theorem dX2_noMany_0 : decode cX2_noMany 0 = .ok (.aload_n 0, 1) := dk_42 (dk_at dksX2_noMany_0 0 rfl rfl)
theorem dX2_noMany_1 : decode cX2_noMany 1 = .ok (.iload_n 1, 1) := dk_27 (dk_at dksX2_noMany_0 1 rfl rfl)
theorem dX2_noMany_2 : decode cX2_noMany 2 = .ok (.i2l, 1) := dk_133 (dk_at dksX2_noMany_0 2 rfl rfl)
theorem dX2_noMany_3 : decode cX2_noMany 3 = .ok (.lconst 1, 1) := dk_10 (dk_at dksX2_noMany_0 3 rfl rfl)
theorem dX2_noMany_4 : decode cX2_noMany 4 = .ok (.iload_n 2, 1) := dk_28 (dk_at dksX2_noMany_0 4 rfl rfl)
theorem dX2_noMany_5 : decode cX2_noMany 5 = .ok (.i2l, 1) := dk_133 (dk_at dksX2_noMany_0 5 rfl rfl)
theorem dX2_noMany_6 : decode cX2_noMany 6 = .ok (.invokestatic 170, 3) := dk_184 0 170 (dk_at dksX2_noMany_0 6 rfl rfl)
theorem dX2_noMany_9 : decode cX2_noMany 9 = .ok (.ifCond .ne 7, 3) := dk_154 0 7 (dk_at dksX2_noMany_0 9 rfl rfl)
theorem dX2_noMany_12 : decode cX2_noMany 12 = .ok (.iconst 1, 1) := dk_4 (dk_at dksX2_noMany_0 12 rfl rfl)
theorem dX2_noMany_13 : decode cX2_noMany 13 = .ok (.goto 4, 3) := dk_167 0 4 (dk_at dksX2_noMany_0 13 rfl rfl)
theorem dX2_noMany_16 : decode cX2_noMany 16 = .ok (.iconst 0, 1) := dk_3 (dk_at dksX2_noMany_0 16 rfl rfl)
theorem dX2_noMany_17 : decode cX2_noMany 17 = .ok (.iload_n 3, 1) := dk_29 (dk_at dksX2_noMany_0 17 rfl rfl)
theorem dX2_noMany_18 : decode cX2_noMany 18 = .ok (.invokevirtual 37, 3) := dk_182 0 37 (dk_at dksX2_noMany_0 18 rfl rfl)
theorem dX2_noMany_21 : decode cX2_noMany 21 = .ok (.ireturn, 1) := dk_172 (dk_at dksX2_noMany_0 21 rfl rfl)
abbrev cX2_pingsToTrue : ByteArray := prog_10_method_85_code
def yX2_pingsToTrue : MethodName := ⟨RX2, "pingsToTrue", "()I"⟩
def dkwX2_pingsToTrue_2 : List UInt8 := [42, 180, 0, 7, 16, 10, 46, 42, 182, 1, 26, 160, 0, 7, 27, 167, 0, 4, 2, 182, 0, 250, 172]
abbrev dktX2_pingsToTrue_2 : List UInt8 := dkwX2_pingsToTrue_2 ++ []
def dkwX2_pingsToTrue_1 : List UInt8 := [180, 0, 7, 16, 10, 46, 42, 182, 1, 26, 159, 0, 13, 42, 182, 0, 227, 132, 1, 1, 167, 255, 229, 42]
abbrev dktX2_pingsToTrue_1 : List UInt8 := dkwX2_pingsToTrue_1 ++ dktX2_pingsToTrue_2
def dkwX2_pingsToTrue_0 : List UInt8 := [42, 182, 1, 0, 153, 0, 5, 3, 172, 42, 182, 0, 244, 3, 60, 27, 16, 100, 162, 0, 27, 42]
abbrev dktX2_pingsToTrue_0 : List UInt8 := dkwX2_pingsToTrue_0 ++ dktX2_pingsToTrue_1
theorem dksX2_pingsToTrue_0 : cX2_pingsToTrue.data.toList.drop 0 = dktX2_pingsToTrue_0 := by decide +kernel
theorem dksX2_pingsToTrue_1 : cX2_pingsToTrue.data.toList.drop 22 = dktX2_pingsToTrue_1 := dk_seg dksX2_pingsToTrue_0 22 rfl rfl
theorem dksX2_pingsToTrue_2 : cX2_pingsToTrue.data.toList.drop 46 = dktX2_pingsToTrue_2 := dk_seg dksX2_pingsToTrue_1 24 rfl rfl
theorem dX2_pingsToTrue_0 : decode cX2_pingsToTrue 0 = .ok (.aload_n 0, 1) := dk_42 (dk_at dksX2_pingsToTrue_0 0 rfl rfl)
theorem dX2_pingsToTrue_1 : decode cX2_pingsToTrue 1 = .ok (.invokevirtual 256, 3) := dk_182 1 0 (dk_at dksX2_pingsToTrue_0 1 rfl rfl)
theorem dX2_pingsToTrue_4 : decode cX2_pingsToTrue 4 = .ok (.ifCond .eq 5, 3) := dk_153 0 5 (dk_at dksX2_pingsToTrue_0 4 rfl rfl)
theorem dX2_pingsToTrue_7 : decode cX2_pingsToTrue 7 = .ok (.iconst 0, 1) := dk_3 (dk_at dksX2_pingsToTrue_0 7 rfl rfl)
theorem dX2_pingsToTrue_8 : decode cX2_pingsToTrue 8 = .ok (.ireturn, 1) := dk_172 (dk_at dksX2_pingsToTrue_0 8 rfl rfl)
theorem dX2_pingsToTrue_9 : decode cX2_pingsToTrue 9 = .ok (.aload_n 0, 1) := dk_42 (dk_at dksX2_pingsToTrue_0 9 rfl rfl)
theorem dX2_pingsToTrue_10 : decode cX2_pingsToTrue 10 = .ok (.invokevirtual 244, 3) := dk_182 0 244 (dk_at dksX2_pingsToTrue_0 10 rfl rfl)
theorem dX2_pingsToTrue_13 : decode cX2_pingsToTrue 13 = .ok (.iconst 0, 1) := dk_3 (dk_at dksX2_pingsToTrue_0 13 rfl rfl)
theorem dX2_pingsToTrue_14 : decode cX2_pingsToTrue 14 = .ok (.istore_n 1, 1) := dk_60 (dk_at dksX2_pingsToTrue_0 14 rfl rfl)
theorem dX2_pingsToTrue_15 : decode cX2_pingsToTrue 15 = .ok (.iload_n 1, 1) := dk_27 (dk_at dksX2_pingsToTrue_0 15 rfl rfl)
theorem dX2_pingsToTrue_16 : decode cX2_pingsToTrue 16 = .ok (.bipush 100, 2) := dk_16 100 (dk_at dksX2_pingsToTrue_0 16 rfl rfl)
theorem dX2_pingsToTrue_18 : decode cX2_pingsToTrue 18 = .ok (.if_icmp .ge 27, 3) := dk_162 0 27 (dk_at dksX2_pingsToTrue_0 18 rfl rfl)
theorem dX2_pingsToTrue_21 : decode cX2_pingsToTrue 21 = .ok (.aload_n 0, 1) := dk_42 (dk_at dksX2_pingsToTrue_0 21 rfl rfl)
theorem dX2_pingsToTrue_22 : decode cX2_pingsToTrue 22 = .ok (.getfield 7, 3) := dk_180 0 7 (dk_at dksX2_pingsToTrue_1 0 rfl rfl)
theorem dX2_pingsToTrue_25 : decode cX2_pingsToTrue 25 = .ok (.bipush 10, 2) := dk_16 10 (dk_at dksX2_pingsToTrue_1 3 rfl rfl)
theorem dX2_pingsToTrue_27 : decode cX2_pingsToTrue 27 = .ok (.iaload, 1) := dk_46 (dk_at dksX2_pingsToTrue_1 5 rfl rfl)
theorem dX2_pingsToTrue_28 : decode cX2_pingsToTrue 28 = .ok (.aload_n 0, 1) := dk_42 (dk_at dksX2_pingsToTrue_1 6 rfl rfl)
theorem dX2_pingsToTrue_29 : decode cX2_pingsToTrue 29 = .ok (.invokevirtual 282, 3) := dk_182 1 26 (dk_at dksX2_pingsToTrue_1 7 rfl rfl)
theorem dX2_pingsToTrue_32 : decode cX2_pingsToTrue 32 = .ok (.if_icmp .eq 13, 3) := dk_159 0 13 (dk_at dksX2_pingsToTrue_1 10 rfl rfl)
theorem dX2_pingsToTrue_35 : decode cX2_pingsToTrue 35 = .ok (.aload_n 0, 1) := dk_42 (dk_at dksX2_pingsToTrue_1 13 rfl rfl)
theorem dX2_pingsToTrue_36 : decode cX2_pingsToTrue 36 = .ok (.invokevirtual 227, 3) := dk_182 0 227 (dk_at dksX2_pingsToTrue_1 14 rfl rfl)
theorem dX2_pingsToTrue_39 : decode cX2_pingsToTrue 39 = .ok (.iinc 1 1, 3) := dk_132 1 1 (dk_at dksX2_pingsToTrue_1 17 rfl rfl)
theorem dX2_pingsToTrue_42 : decode cX2_pingsToTrue 42 = .ok (.goto (-27), 3) := dk_167 255 229 (dk_at dksX2_pingsToTrue_1 20 rfl rfl)
theorem dX2_pingsToTrue_45 : decode cX2_pingsToTrue 45 = .ok (.aload_n 0, 1) := dk_42 (dk_at dksX2_pingsToTrue_1 23 rfl rfl)
theorem dX2_pingsToTrue_46 : decode cX2_pingsToTrue 46 = .ok (.aload_n 0, 1) := dk_42 (dk_at dksX2_pingsToTrue_2 0 rfl rfl)
theorem dX2_pingsToTrue_47 : decode cX2_pingsToTrue 47 = .ok (.getfield 7, 3) := dk_180 0 7 (dk_at dksX2_pingsToTrue_2 1 rfl rfl)
theorem dX2_pingsToTrue_50 : decode cX2_pingsToTrue 50 = .ok (.bipush 10, 2) := dk_16 10 (dk_at dksX2_pingsToTrue_2 4 rfl rfl)
theorem dX2_pingsToTrue_52 : decode cX2_pingsToTrue 52 = .ok (.iaload, 1) := dk_46 (dk_at dksX2_pingsToTrue_2 6 rfl rfl)
theorem dX2_pingsToTrue_53 : decode cX2_pingsToTrue 53 = .ok (.aload_n 0, 1) := dk_42 (dk_at dksX2_pingsToTrue_2 7 rfl rfl)
theorem dX2_pingsToTrue_54 : decode cX2_pingsToTrue 54 = .ok (.invokevirtual 282, 3) := dk_182 1 26 (dk_at dksX2_pingsToTrue_2 8 rfl rfl)
theorem dX2_pingsToTrue_57 : decode cX2_pingsToTrue 57 = .ok (.if_icmp .ne 7, 3) := dk_160 0 7 (dk_at dksX2_pingsToTrue_2 11 rfl rfl)
theorem dX2_pingsToTrue_60 : decode cX2_pingsToTrue 60 = .ok (.iload_n 1, 1) := dk_27 (dk_at dksX2_pingsToTrue_2 14 rfl rfl)
theorem dX2_pingsToTrue_61 : decode cX2_pingsToTrue 61 = .ok (.goto 4, 3) := dk_167 0 4 (dk_at dksX2_pingsToTrue_2 15 rfl rfl)
theorem dX2_pingsToTrue_64 : decode cX2_pingsToTrue 64 = .ok (.iconst (-1), 1) := dk_2 (dk_at dksX2_pingsToTrue_2 18 rfl rfl)
theorem dX2_pingsToTrue_65 : decode cX2_pingsToTrue 65 = .ok (.invokevirtual 250, 3) := dk_182 0 250 (dk_at dksX2_pingsToTrue_2 19 rfl rfl)
theorem dX2_pingsToTrue_68 : decode cX2_pingsToTrue 68 = .ok (.ireturn, 1) := dk_172 (dk_at dksX2_pingsToTrue_2 22 rfl rfl)
abbrev cX2_deafFrom : ByteArray := prog_10_method_86_code
def yX2_deafFrom : MethodName := ⟨RX2, "deafFrom", "()I"⟩
def dkwX2_deafFrom_2 : List UInt8 := [27, 172, 132, 1, 1, 167, 255, 214, 2, 172]
abbrev dktX2_deafFrom_2 : List UInt8 := dkwX2_deafFrom_2 ++ []
def dkwX2_deafFrom_1 : List UInt8 := [182, 0, 83, 100, 42, 182, 0, 83, 27, 104, 16, 10, 108, 100, 42, 180, 0, 7, 16, 6, 46, 162, 0, 5]
abbrev dktX2_deafFrom_1 : List UInt8 := dkwX2_deafFrom_1 ++ dktX2_deafFrom_2
def dkwX2_deafFrom_0 : List UInt8 := [42, 182, 1, 0, 153, 0, 5, 3, 172, 3, 60, 27, 16, 99, 163, 0, 42, 42, 180, 0, 7, 8, 46, 42]
abbrev dktX2_deafFrom_0 : List UInt8 := dkwX2_deafFrom_0 ++ dktX2_deafFrom_1
theorem dksX2_deafFrom_0 : cX2_deafFrom.data.toList.drop 0 = dktX2_deafFrom_0 := by decide +kernel
theorem dksX2_deafFrom_1 : cX2_deafFrom.data.toList.drop 24 = dktX2_deafFrom_1 := dk_seg dksX2_deafFrom_0 24 rfl rfl
theorem dksX2_deafFrom_2 : cX2_deafFrom.data.toList.drop 48 = dktX2_deafFrom_2 := dk_seg dksX2_deafFrom_1 24 rfl rfl
theorem dX2_deafFrom_0 : decode cX2_deafFrom 0 = .ok (.aload_n 0, 1) := dk_42 (dk_at dksX2_deafFrom_0 0 rfl rfl)
theorem dX2_deafFrom_1 : decode cX2_deafFrom 1 = .ok (.invokevirtual 256, 3) := dk_182 1 0 (dk_at dksX2_deafFrom_0 1 rfl rfl)
theorem dX2_deafFrom_4 : decode cX2_deafFrom 4 = .ok (.ifCond .eq 5, 3) := dk_153 0 5 (dk_at dksX2_deafFrom_0 4 rfl rfl)
theorem dX2_deafFrom_7 : decode cX2_deafFrom 7 = .ok (.iconst 0, 1) := dk_3 (dk_at dksX2_deafFrom_0 7 rfl rfl)
theorem dX2_deafFrom_8 : decode cX2_deafFrom 8 = .ok (.ireturn, 1) := dk_172 (dk_at dksX2_deafFrom_0 8 rfl rfl)
theorem dX2_deafFrom_9 : decode cX2_deafFrom 9 = .ok (.iconst 0, 1) := dk_3 (dk_at dksX2_deafFrom_0 9 rfl rfl)
theorem dX2_deafFrom_10 : decode cX2_deafFrom 10 = .ok (.istore_n 1, 1) := dk_60 (dk_at dksX2_deafFrom_0 10 rfl rfl)
theorem dX2_deafFrom_11 : decode cX2_deafFrom 11 = .ok (.iload_n 1, 1) := dk_27 (dk_at dksX2_deafFrom_0 11 rfl rfl)
theorem dX2_deafFrom_12 : decode cX2_deafFrom 12 = .ok (.bipush 99, 2) := dk_16 99 (dk_at dksX2_deafFrom_0 12 rfl rfl)
theorem dX2_deafFrom_14 : decode cX2_deafFrom 14 = .ok (.if_icmp .gt 42, 3) := dk_163 0 42 (dk_at dksX2_deafFrom_0 14 rfl rfl)
theorem dX2_deafFrom_17 : decode cX2_deafFrom 17 = .ok (.aload_n 0, 1) := dk_42 (dk_at dksX2_deafFrom_0 17 rfl rfl)
theorem dX2_deafFrom_18 : decode cX2_deafFrom 18 = .ok (.getfield 7, 3) := dk_180 0 7 (dk_at dksX2_deafFrom_0 18 rfl rfl)
theorem dX2_deafFrom_21 : decode cX2_deafFrom 21 = .ok (.iconst 5, 1) := dk_8 (dk_at dksX2_deafFrom_0 21 rfl rfl)
theorem dX2_deafFrom_22 : decode cX2_deafFrom 22 = .ok (.iaload, 1) := dk_46 (dk_at dksX2_deafFrom_0 22 rfl rfl)
theorem dX2_deafFrom_23 : decode cX2_deafFrom 23 = .ok (.aload_n 0, 1) := dk_42 (dk_at dksX2_deafFrom_0 23 rfl rfl)
theorem dX2_deafFrom_24 : decode cX2_deafFrom 24 = .ok (.invokevirtual 83, 3) := dk_182 0 83 (dk_at dksX2_deafFrom_1 0 rfl rfl)
theorem dX2_deafFrom_27 : decode cX2_deafFrom 27 = .ok (.isub, 1) := dk_100 (dk_at dksX2_deafFrom_1 3 rfl rfl)
theorem dX2_deafFrom_28 : decode cX2_deafFrom 28 = .ok (.aload_n 0, 1) := dk_42 (dk_at dksX2_deafFrom_1 4 rfl rfl)
theorem dX2_deafFrom_29 : decode cX2_deafFrom 29 = .ok (.invokevirtual 83, 3) := dk_182 0 83 (dk_at dksX2_deafFrom_1 5 rfl rfl)
theorem dX2_deafFrom_32 : decode cX2_deafFrom 32 = .ok (.iload_n 1, 1) := dk_27 (dk_at dksX2_deafFrom_1 8 rfl rfl)
theorem dX2_deafFrom_33 : decode cX2_deafFrom 33 = .ok (.imul, 1) := dk_104 (dk_at dksX2_deafFrom_1 9 rfl rfl)
theorem dX2_deafFrom_34 : decode cX2_deafFrom 34 = .ok (.bipush 10, 2) := dk_16 10 (dk_at dksX2_deafFrom_1 10 rfl rfl)
theorem dX2_deafFrom_36 : decode cX2_deafFrom 36 = .ok (.idiv, 1) := dk_108 (dk_at dksX2_deafFrom_1 12 rfl rfl)
theorem dX2_deafFrom_37 : decode cX2_deafFrom 37 = .ok (.isub, 1) := dk_100 (dk_at dksX2_deafFrom_1 13 rfl rfl)
theorem dX2_deafFrom_38 : decode cX2_deafFrom 38 = .ok (.aload_n 0, 1) := dk_42 (dk_at dksX2_deafFrom_1 14 rfl rfl)
theorem dX2_deafFrom_39 : decode cX2_deafFrom 39 = .ok (.getfield 7, 3) := dk_180 0 7 (dk_at dksX2_deafFrom_1 15 rfl rfl)
theorem dX2_deafFrom_42 : decode cX2_deafFrom 42 = .ok (.bipush 6, 2) := dk_16 6 (dk_at dksX2_deafFrom_1 18 rfl rfl)
theorem dX2_deafFrom_44 : decode cX2_deafFrom 44 = .ok (.iaload, 1) := dk_46 (dk_at dksX2_deafFrom_1 20 rfl rfl)
theorem dX2_deafFrom_45 : decode cX2_deafFrom 45 = .ok (.if_icmp .ge 5, 3) := dk_162 0 5 (dk_at dksX2_deafFrom_1 21 rfl rfl)
theorem dX2_deafFrom_48 : decode cX2_deafFrom 48 = .ok (.iload_n 1, 1) := dk_27 (dk_at dksX2_deafFrom_2 0 rfl rfl)
theorem dX2_deafFrom_49 : decode cX2_deafFrom 49 = .ok (.ireturn, 1) := dk_172 (dk_at dksX2_deafFrom_2 1 rfl rfl)
theorem dX2_deafFrom_50 : decode cX2_deafFrom 50 = .ok (.iinc 1 1, 3) := dk_132 1 1 (dk_at dksX2_deafFrom_2 2 rfl rfl)
theorem dX2_deafFrom_53 : decode cX2_deafFrom 53 = .ok (.goto (-42), 3) := dk_167 255 214 (dk_at dksX2_deafFrom_2 5 rfl rfl)
theorem dX2_deafFrom_56 : decode cX2_deafFrom 56 = .ok (.iconst (-1), 1) := dk_2 (dk_at dksX2_deafFrom_2 8 rfl rfl)
theorem dX2_deafFrom_57 : decode cX2_deafFrom 57 = .ok (.ireturn, 1) := dk_172 (dk_at dksX2_deafFrom_2 9 rfl rfl)
abbrev cX2_heightIf : ByteArray := prog_10_method_87_code
def yX2_heightIf : MethodName := ⟨RX2, "heightIf", "(III)I"⟩
def dkwX2_heightIf_2 : List UInt8 := [29, 28, 182, 0, 193, 54, 4, 42, 42, 27, 182, 0, 49, 182, 0, 250, 172]
abbrev dktX2_heightIf_2 : List UInt8 := dkwX2_heightIf_2 ++ []
def dkwX2_heightIf_1 : List UInt8 := [182, 0, 37, 154, 0, 14, 42, 28, 16, 99, 6, 182, 1, 29, 153, 0, 5, 3, 172, 42, 182, 0, 244, 42]
abbrev dktX2_heightIf_1 : List UInt8 := dkwX2_heightIf_1 ++ dktX2_heightIf_2
def dkwX2_heightIf_0 : List UInt8 := [42, 27, 182, 1, 19, 154, 0, 35, 42, 42, 29, 182, 1, 16, 154, 0, 7, 4, 167, 0, 4, 3, 5]
abbrev dktX2_heightIf_0 : List UInt8 := dkwX2_heightIf_0 ++ dktX2_heightIf_1
theorem dksX2_heightIf_0 : cX2_heightIf.data.toList.drop 0 = dktX2_heightIf_0 := by decide +kernel
theorem dksX2_heightIf_1 : cX2_heightIf.data.toList.drop 23 = dktX2_heightIf_1 := dk_seg dksX2_heightIf_0 23 rfl rfl
theorem dksX2_heightIf_2 : cX2_heightIf.data.toList.drop 47 = dktX2_heightIf_2 := dk_seg dksX2_heightIf_1 24 rfl rfl
theorem dX2_heightIf_0 : decode cX2_heightIf 0 = .ok (.aload_n 0, 1) := dk_42 (dk_at dksX2_heightIf_0 0 rfl rfl)
theorem dX2_heightIf_1 : decode cX2_heightIf 1 = .ok (.iload_n 1, 1) := dk_27 (dk_at dksX2_heightIf_0 1 rfl rfl)
theorem dX2_heightIf_2 : decode cX2_heightIf 2 = .ok (.invokevirtual 275, 3) := dk_182 1 19 (dk_at dksX2_heightIf_0 2 rfl rfl)
theorem dX2_heightIf_5 : decode cX2_heightIf 5 = .ok (.ifCond .ne 35, 3) := dk_154 0 35 (dk_at dksX2_heightIf_0 5 rfl rfl)
theorem dX2_heightIf_8 : decode cX2_heightIf 8 = .ok (.aload_n 0, 1) := dk_42 (dk_at dksX2_heightIf_0 8 rfl rfl)
theorem dX2_heightIf_9 : decode cX2_heightIf 9 = .ok (.aload_n 0, 1) := dk_42 (dk_at dksX2_heightIf_0 9 rfl rfl)
theorem dX2_heightIf_10 : decode cX2_heightIf 10 = .ok (.iload_n 3, 1) := dk_29 (dk_at dksX2_heightIf_0 10 rfl rfl)
theorem dX2_heightIf_11 : decode cX2_heightIf 11 = .ok (.invokevirtual 272, 3) := dk_182 1 16 (dk_at dksX2_heightIf_0 11 rfl rfl)
theorem dX2_heightIf_14 : decode cX2_heightIf 14 = .ok (.ifCond .ne 7, 3) := dk_154 0 7 (dk_at dksX2_heightIf_0 14 rfl rfl)
theorem dX2_heightIf_17 : decode cX2_heightIf 17 = .ok (.iconst 1, 1) := dk_4 (dk_at dksX2_heightIf_0 17 rfl rfl)
theorem dX2_heightIf_18 : decode cX2_heightIf 18 = .ok (.goto 4, 3) := dk_167 0 4 (dk_at dksX2_heightIf_0 18 rfl rfl)
theorem dX2_heightIf_21 : decode cX2_heightIf 21 = .ok (.iconst 0, 1) := dk_3 (dk_at dksX2_heightIf_0 21 rfl rfl)
theorem dX2_heightIf_22 : decode cX2_heightIf 22 = .ok (.iconst 2, 1) := dk_5 (dk_at dksX2_heightIf_0 22 rfl rfl)
theorem dX2_heightIf_23 : decode cX2_heightIf 23 = .ok (.invokevirtual 37, 3) := dk_182 0 37 (dk_at dksX2_heightIf_1 0 rfl rfl)
theorem dX2_heightIf_26 : decode cX2_heightIf 26 = .ok (.ifCond .ne 14, 3) := dk_154 0 14 (dk_at dksX2_heightIf_1 3 rfl rfl)
theorem dX2_heightIf_29 : decode cX2_heightIf 29 = .ok (.aload_n 0, 1) := dk_42 (dk_at dksX2_heightIf_1 6 rfl rfl)
theorem dX2_heightIf_30 : decode cX2_heightIf 30 = .ok (.iload_n 2, 1) := dk_28 (dk_at dksX2_heightIf_1 7 rfl rfl)
theorem dX2_heightIf_31 : decode cX2_heightIf 31 = .ok (.bipush 99, 2) := dk_16 99 (dk_at dksX2_heightIf_1 8 rfl rfl)
theorem dX2_heightIf_33 : decode cX2_heightIf 33 = .ok (.iconst 3, 1) := dk_6 (dk_at dksX2_heightIf_1 10 rfl rfl)
theorem dX2_heightIf_34 : decode cX2_heightIf 34 = .ok (.invokevirtual 285, 3) := dk_182 1 29 (dk_at dksX2_heightIf_1 11 rfl rfl)
theorem dX2_heightIf_37 : decode cX2_heightIf 37 = .ok (.ifCond .eq 5, 3) := dk_153 0 5 (dk_at dksX2_heightIf_1 14 rfl rfl)
theorem dX2_heightIf_40 : decode cX2_heightIf 40 = .ok (.iconst 0, 1) := dk_3 (dk_at dksX2_heightIf_1 17 rfl rfl)
theorem dX2_heightIf_41 : decode cX2_heightIf 41 = .ok (.ireturn, 1) := dk_172 (dk_at dksX2_heightIf_1 18 rfl rfl)
theorem dX2_heightIf_42 : decode cX2_heightIf 42 = .ok (.aload_n 0, 1) := dk_42 (dk_at dksX2_heightIf_1 19 rfl rfl)
theorem dX2_heightIf_43 : decode cX2_heightIf 43 = .ok (.invokevirtual 244, 3) := dk_182 0 244 (dk_at dksX2_heightIf_1 20 rfl rfl)
theorem dX2_heightIf_46 : decode cX2_heightIf 46 = .ok (.aload_n 0, 1) := dk_42 (dk_at dksX2_heightIf_1 23 rfl rfl)
theorem dX2_heightIf_47 : decode cX2_heightIf 47 = .ok (.iload_n 3, 1) := dk_29 (dk_at dksX2_heightIf_2 0 rfl rfl)
theorem dX2_heightIf_48 : decode cX2_heightIf 48 = .ok (.iload_n 2, 1) := dk_28 (dk_at dksX2_heightIf_2 1 rfl rfl)
theorem dX2_heightIf_49 : decode cX2_heightIf 49 = .ok (.invokevirtual 193, 3) := dk_182 0 193 (dk_at dksX2_heightIf_2 2 rfl rfl)
theorem dX2_heightIf_52 : decode cX2_heightIf 52 = .ok (.istore 4, 2) := dk_54 4 (dk_at dksX2_heightIf_2 5 rfl rfl)
theorem dX2_heightIf_54 : decode cX2_heightIf 54 = .ok (.aload_n 0, 1) := dk_42 (dk_at dksX2_heightIf_2 7 rfl rfl)
theorem dX2_heightIf_55 : decode cX2_heightIf 55 = .ok (.aload_n 0, 1) := dk_42 (dk_at dksX2_heightIf_2 8 rfl rfl)
theorem dX2_heightIf_56 : decode cX2_heightIf 56 = .ok (.iload_n 1, 1) := dk_27 (dk_at dksX2_heightIf_2 9 rfl rfl)
theorem dX2_heightIf_57 : decode cX2_heightIf 57 = .ok (.invokevirtual 49, 3) := dk_182 0 49 (dk_at dksX2_heightIf_2 10 rfl rfl)
theorem dX2_heightIf_60 : decode cX2_heightIf 60 = .ok (.invokevirtual 250, 3) := dk_182 0 250 (dk_at dksX2_heightIf_2 13 rfl rfl)
theorem dX2_heightIf_63 : decode cX2_heightIf 63 = .ok (.ireturn, 1) := dk_172 (dk_at dksX2_heightIf_2 16 rfl rfl)
abbrev cX2_spilledIf : ByteArray := prog_10_method_89_code
def yX2_spilledIf : MethodName := ⟨RX2, "spilledIf", "(II)I"⟩
def dkwX2_spilledIf_1 : List UInt8 := [182, 0, 250, 172]
abbrev dktX2_spilledIf_1 : List UInt8 := dkwX2_spilledIf_1 ++ []
def dkwX2_spilledIf_0 : List UInt8 := [42, 27, 28, 182, 1, 33, 153, 0, 5, 3, 172, 42, 182, 0, 244, 42, 28, 42, 27, 28, 182, 0, 193, 100]
abbrev dktX2_spilledIf_0 : List UInt8 := dkwX2_spilledIf_0 ++ dktX2_spilledIf_1
theorem dksX2_spilledIf_0 : cX2_spilledIf.data.toList.drop 0 = dktX2_spilledIf_0 := by decide +kernel
theorem dksX2_spilledIf_1 : cX2_spilledIf.data.toList.drop 24 = dktX2_spilledIf_1 := dk_seg dksX2_spilledIf_0 24 rfl rfl
theorem dX2_spilledIf_0 : decode cX2_spilledIf 0 = .ok (.aload_n 0, 1) := dk_42 (dk_at dksX2_spilledIf_0 0 rfl rfl)
theorem dX2_spilledIf_1 : decode cX2_spilledIf 1 = .ok (.iload_n 1, 1) := dk_27 (dk_at dksX2_spilledIf_0 1 rfl rfl)
theorem dX2_spilledIf_2 : decode cX2_spilledIf 2 = .ok (.iload_n 2, 1) := dk_28 (dk_at dksX2_spilledIf_0 2 rfl rfl)
theorem dX2_spilledIf_3 : decode cX2_spilledIf 3 = .ok (.invokevirtual 289, 3) := dk_182 1 33 (dk_at dksX2_spilledIf_0 3 rfl rfl)
theorem dX2_spilledIf_6 : decode cX2_spilledIf 6 = .ok (.ifCond .eq 5, 3) := dk_153 0 5 (dk_at dksX2_spilledIf_0 6 rfl rfl)
theorem dX2_spilledIf_9 : decode cX2_spilledIf 9 = .ok (.iconst 0, 1) := dk_3 (dk_at dksX2_spilledIf_0 9 rfl rfl)
theorem dX2_spilledIf_10 : decode cX2_spilledIf 10 = .ok (.ireturn, 1) := dk_172 (dk_at dksX2_spilledIf_0 10 rfl rfl)
theorem dX2_spilledIf_11 : decode cX2_spilledIf 11 = .ok (.aload_n 0, 1) := dk_42 (dk_at dksX2_spilledIf_0 11 rfl rfl)
theorem dX2_spilledIf_12 : decode cX2_spilledIf 12 = .ok (.invokevirtual 244, 3) := dk_182 0 244 (dk_at dksX2_spilledIf_0 12 rfl rfl)
theorem dX2_spilledIf_15 : decode cX2_spilledIf 15 = .ok (.aload_n 0, 1) := dk_42 (dk_at dksX2_spilledIf_0 15 rfl rfl)
theorem dX2_spilledIf_16 : decode cX2_spilledIf 16 = .ok (.iload_n 2, 1) := dk_28 (dk_at dksX2_spilledIf_0 16 rfl rfl)
theorem dX2_spilledIf_17 : decode cX2_spilledIf 17 = .ok (.aload_n 0, 1) := dk_42 (dk_at dksX2_spilledIf_0 17 rfl rfl)
theorem dX2_spilledIf_18 : decode cX2_spilledIf 18 = .ok (.iload_n 1, 1) := dk_27 (dk_at dksX2_spilledIf_0 18 rfl rfl)
theorem dX2_spilledIf_19 : decode cX2_spilledIf 19 = .ok (.iload_n 2, 1) := dk_28 (dk_at dksX2_spilledIf_0 19 rfl rfl)
theorem dX2_spilledIf_20 : decode cX2_spilledIf 20 = .ok (.invokevirtual 193, 3) := dk_182 0 193 (dk_at dksX2_spilledIf_0 20 rfl rfl)
theorem dX2_spilledIf_23 : decode cX2_spilledIf 23 = .ok (.isub, 1) := dk_100 (dk_at dksX2_spilledIf_0 23 rfl rfl)
theorem dX2_spilledIf_24 : decode cX2_spilledIf 24 = .ok (.invokevirtual 250, 3) := dk_182 0 250 (dk_at dksX2_spilledIf_1 0 rfl rfl)
theorem dX2_spilledIf_27 : decode cX2_spilledIf 27 = .ok (.ireturn, 1) := dk_172 (dk_at dksX2_spilledIf_1 3 rfl rfl)
abbrev cX2_noUnits : ByteArray := prog_10_method_88_code
def yX2_noUnits : MethodName := ⟨RX2, "noUnits", "(II)Z"⟩
def dkwX2_noUnits_1 : List UInt8 := [172]
abbrev dktX2_noUnits_1 : List UInt8 := dkwX2_noUnits_1 ++ []
def dkwX2_noUnits_0 : List UInt8 := [42, 27, 182, 1, 19, 154, 0, 14, 42, 28, 16, 99, 6, 182, 1, 29, 153, 0, 7, 4, 167, 0, 4, 3]
abbrev dktX2_noUnits_0 : List UInt8 := dkwX2_noUnits_0 ++ dktX2_noUnits_1
theorem dksX2_noUnits_0 : cX2_noUnits.data.toList.drop 0 = dktX2_noUnits_0 := by decide +kernel
theorem dksX2_noUnits_1 : cX2_noUnits.data.toList.drop 24 = dktX2_noUnits_1 := dk_seg dksX2_noUnits_0 24 rfl rfl
theorem dX2_noUnits_0 : decode cX2_noUnits 0 = .ok (.aload_n 0, 1) := dk_42 (dk_at dksX2_noUnits_0 0 rfl rfl)
theorem dX2_noUnits_1 : decode cX2_noUnits 1 = .ok (.iload_n 1, 1) := dk_27 (dk_at dksX2_noUnits_0 1 rfl rfl)
theorem dX2_noUnits_2 : decode cX2_noUnits 2 = .ok (.invokevirtual 275, 3) := dk_182 1 19 (dk_at dksX2_noUnits_0 2 rfl rfl)
theorem dX2_noUnits_5 : decode cX2_noUnits 5 = .ok (.ifCond .ne 14, 3) := dk_154 0 14 (dk_at dksX2_noUnits_0 5 rfl rfl)
theorem dX2_noUnits_8 : decode cX2_noUnits 8 = .ok (.aload_n 0, 1) := dk_42 (dk_at dksX2_noUnits_0 8 rfl rfl)
theorem dX2_noUnits_9 : decode cX2_noUnits 9 = .ok (.iload_n 2, 1) := dk_28 (dk_at dksX2_noUnits_0 9 rfl rfl)
theorem dX2_noUnits_10 : decode cX2_noUnits 10 = .ok (.bipush 99, 2) := dk_16 99 (dk_at dksX2_noUnits_0 10 rfl rfl)
theorem dX2_noUnits_12 : decode cX2_noUnits 12 = .ok (.iconst 3, 1) := dk_6 (dk_at dksX2_noUnits_0 12 rfl rfl)
theorem dX2_noUnits_13 : decode cX2_noUnits 13 = .ok (.invokevirtual 285, 3) := dk_182 1 29 (dk_at dksX2_noUnits_0 13 rfl rfl)
theorem dX2_noUnits_16 : decode cX2_noUnits 16 = .ok (.ifCond .eq 7, 3) := dk_153 0 7 (dk_at dksX2_noUnits_0 16 rfl rfl)
theorem dX2_noUnits_19 : decode cX2_noUnits 19 = .ok (.iconst 1, 1) := dk_4 (dk_at dksX2_noUnits_0 19 rfl rfl)
theorem dX2_noUnits_20 : decode cX2_noUnits 20 = .ok (.goto 4, 3) := dk_167 0 4 (dk_at dksX2_noUnits_0 20 rfl rfl)
theorem dX2_noUnits_23 : decode cX2_noUnits 23 = .ok (.iconst 0, 1) := dk_3 (dk_at dksX2_noUnits_0 23 rfl rfl)
theorem dX2_noUnits_24 : decode cX2_noUnits 24 = .ok (.ireturn, 1) := dk_172 (dk_at dksX2_noUnits_1 0 rfl rfl)
abbrev cX2_slidIf : ByteArray := prog_10_method_90_code
def yX2_slidIf : MethodName := ⟨RX2, "slidIf", "(II)I"⟩
def dkwX2_slidIf_1 : List UInt8 := [27, 28, 182, 0, 193, 54, 4, 42, 42, 180, 0, 7, 16, 18, 46, 29, 100, 182, 0, 250, 172]
abbrev dktX2_slidIf_1 : List UInt8 := dkwX2_slidIf_1 ++ []
def dkwX2_slidIf_0 : List UInt8 := [42, 27, 28, 182, 1, 33, 153, 0, 5, 3, 172, 42, 180, 0, 7, 16, 18, 46, 62, 42, 182, 0, 244, 42]
abbrev dktX2_slidIf_0 : List UInt8 := dkwX2_slidIf_0 ++ dktX2_slidIf_1
theorem dksX2_slidIf_0 : cX2_slidIf.data.toList.drop 0 = dktX2_slidIf_0 := by decide +kernel
theorem dksX2_slidIf_1 : cX2_slidIf.data.toList.drop 24 = dktX2_slidIf_1 := dk_seg dksX2_slidIf_0 24 rfl rfl
theorem dX2_slidIf_0 : decode cX2_slidIf 0 = .ok (.aload_n 0, 1) := dk_42 (dk_at dksX2_slidIf_0 0 rfl rfl)
theorem dX2_slidIf_1 : decode cX2_slidIf 1 = .ok (.iload_n 1, 1) := dk_27 (dk_at dksX2_slidIf_0 1 rfl rfl)
theorem dX2_slidIf_2 : decode cX2_slidIf 2 = .ok (.iload_n 2, 1) := dk_28 (dk_at dksX2_slidIf_0 2 rfl rfl)
theorem dX2_slidIf_3 : decode cX2_slidIf 3 = .ok (.invokevirtual 289, 3) := dk_182 1 33 (dk_at dksX2_slidIf_0 3 rfl rfl)
theorem dX2_slidIf_6 : decode cX2_slidIf 6 = .ok (.ifCond .eq 5, 3) := dk_153 0 5 (dk_at dksX2_slidIf_0 6 rfl rfl)
theorem dX2_slidIf_9 : decode cX2_slidIf 9 = .ok (.iconst 0, 1) := dk_3 (dk_at dksX2_slidIf_0 9 rfl rfl)
theorem dX2_slidIf_10 : decode cX2_slidIf 10 = .ok (.ireturn, 1) := dk_172 (dk_at dksX2_slidIf_0 10 rfl rfl)
theorem dX2_slidIf_11 : decode cX2_slidIf 11 = .ok (.aload_n 0, 1) := dk_42 (dk_at dksX2_slidIf_0 11 rfl rfl)
theorem dX2_slidIf_12 : decode cX2_slidIf 12 = .ok (.getfield 7, 3) := dk_180 0 7 (dk_at dksX2_slidIf_0 12 rfl rfl)
theorem dX2_slidIf_15 : decode cX2_slidIf 15 = .ok (.bipush 18, 2) := dk_16 18 (dk_at dksX2_slidIf_0 15 rfl rfl)
theorem dX2_slidIf_17 : decode cX2_slidIf 17 = .ok (.iaload, 1) := dk_46 (dk_at dksX2_slidIf_0 17 rfl rfl)
theorem dX2_slidIf_18 : decode cX2_slidIf 18 = .ok (.istore_n 3, 1) := dk_62 (dk_at dksX2_slidIf_0 18 rfl rfl)
theorem dX2_slidIf_19 : decode cX2_slidIf 19 = .ok (.aload_n 0, 1) := dk_42 (dk_at dksX2_slidIf_0 19 rfl rfl)
theorem dX2_slidIf_20 : decode cX2_slidIf 20 = .ok (.invokevirtual 244, 3) := dk_182 0 244 (dk_at dksX2_slidIf_0 20 rfl rfl)
theorem dX2_slidIf_23 : decode cX2_slidIf 23 = .ok (.aload_n 0, 1) := dk_42 (dk_at dksX2_slidIf_0 23 rfl rfl)
theorem dX2_slidIf_24 : decode cX2_slidIf 24 = .ok (.iload_n 1, 1) := dk_27 (dk_at dksX2_slidIf_1 0 rfl rfl)
theorem dX2_slidIf_25 : decode cX2_slidIf 25 = .ok (.iload_n 2, 1) := dk_28 (dk_at dksX2_slidIf_1 1 rfl rfl)
theorem dX2_slidIf_26 : decode cX2_slidIf 26 = .ok (.invokevirtual 193, 3) := dk_182 0 193 (dk_at dksX2_slidIf_1 2 rfl rfl)
theorem dX2_slidIf_29 : decode cX2_slidIf 29 = .ok (.istore 4, 2) := dk_54 4 (dk_at dksX2_slidIf_1 5 rfl rfl)
theorem dX2_slidIf_31 : decode cX2_slidIf 31 = .ok (.aload_n 0, 1) := dk_42 (dk_at dksX2_slidIf_1 7 rfl rfl)
theorem dX2_slidIf_32 : decode cX2_slidIf 32 = .ok (.aload_n 0, 1) := dk_42 (dk_at dksX2_slidIf_1 8 rfl rfl)
theorem dX2_slidIf_33 : decode cX2_slidIf 33 = .ok (.getfield 7, 3) := dk_180 0 7 (dk_at dksX2_slidIf_1 9 rfl rfl)
theorem dX2_slidIf_36 : decode cX2_slidIf 36 = .ok (.bipush 18, 2) := dk_16 18 (dk_at dksX2_slidIf_1 12 rfl rfl)
theorem dX2_slidIf_38 : decode cX2_slidIf 38 = .ok (.iaload, 1) := dk_46 (dk_at dksX2_slidIf_1 14 rfl rfl)
theorem dX2_slidIf_39 : decode cX2_slidIf 39 = .ok (.iload_n 3, 1) := dk_29 (dk_at dksX2_slidIf_1 15 rfl rfl)
theorem dX2_slidIf_40 : decode cX2_slidIf 40 = .ok (.isub, 1) := dk_100 (dk_at dksX2_slidIf_1 16 rfl rfl)
theorem dX2_slidIf_41 : decode cX2_slidIf 41 = .ok (.invokevirtual 250, 3) := dk_182 0 250 (dk_at dksX2_slidIf_1 17 rfl rfl)
theorem dX2_slidIf_44 : decode cX2_slidIf 44 = .ok (.ireturn, 1) := dk_172 (dk_at dksX2_slidIf_1 20 rfl rfl)
abbrev cX2_roomIn : ByteArray := prog_10_method_91_code
def yX2_roomIn : MethodName := ⟨RX2, "roomIn", "(I)I"⟩
def dkwX2_roomIn_1 : List UInt8 := [132, 2, 1, 167, 255, 245, 42, 28, 182, 0, 250, 172]
abbrev dktX2_roomIn_1 : List UInt8 := dkwX2_roomIn_1 ++ []
def dkwX2_roomIn_0 : List UInt8 := [42, 27, 182, 1, 19, 153, 0, 5, 3, 172, 42, 182, 0, 244, 3, 61, 42, 27, 182, 0, 72, 153, 0, 9]
abbrev dktX2_roomIn_0 : List UInt8 := dkwX2_roomIn_0 ++ dktX2_roomIn_1
theorem dksX2_roomIn_0 : cX2_roomIn.data.toList.drop 0 = dktX2_roomIn_0 := by decide +kernel
theorem dksX2_roomIn_1 : cX2_roomIn.data.toList.drop 24 = dktX2_roomIn_1 := dk_seg dksX2_roomIn_0 24 rfl rfl
theorem dX2_roomIn_0 : decode cX2_roomIn 0 = .ok (.aload_n 0, 1) := dk_42 (dk_at dksX2_roomIn_0 0 rfl rfl)
theorem dX2_roomIn_1 : decode cX2_roomIn 1 = .ok (.iload_n 1, 1) := dk_27 (dk_at dksX2_roomIn_0 1 rfl rfl)
theorem dX2_roomIn_2 : decode cX2_roomIn 2 = .ok (.invokevirtual 275, 3) := dk_182 1 19 (dk_at dksX2_roomIn_0 2 rfl rfl)
theorem dX2_roomIn_5 : decode cX2_roomIn 5 = .ok (.ifCond .eq 5, 3) := dk_153 0 5 (dk_at dksX2_roomIn_0 5 rfl rfl)
theorem dX2_roomIn_8 : decode cX2_roomIn 8 = .ok (.iconst 0, 1) := dk_3 (dk_at dksX2_roomIn_0 8 rfl rfl)
theorem dX2_roomIn_9 : decode cX2_roomIn 9 = .ok (.ireturn, 1) := dk_172 (dk_at dksX2_roomIn_0 9 rfl rfl)
theorem dX2_roomIn_10 : decode cX2_roomIn 10 = .ok (.aload_n 0, 1) := dk_42 (dk_at dksX2_roomIn_0 10 rfl rfl)
theorem dX2_roomIn_11 : decode cX2_roomIn 11 = .ok (.invokevirtual 244, 3) := dk_182 0 244 (dk_at dksX2_roomIn_0 11 rfl rfl)
theorem dX2_roomIn_14 : decode cX2_roomIn 14 = .ok (.iconst 0, 1) := dk_3 (dk_at dksX2_roomIn_0 14 rfl rfl)
theorem dX2_roomIn_15 : decode cX2_roomIn 15 = .ok (.istore_n 2, 1) := dk_61 (dk_at dksX2_roomIn_0 15 rfl rfl)
theorem dX2_roomIn_16 : decode cX2_roomIn 16 = .ok (.aload_n 0, 1) := dk_42 (dk_at dksX2_roomIn_0 16 rfl rfl)
theorem dX2_roomIn_17 : decode cX2_roomIn 17 = .ok (.iload_n 1, 1) := dk_27 (dk_at dksX2_roomIn_0 17 rfl rfl)
theorem dX2_roomIn_18 : decode cX2_roomIn 18 = .ok (.invokevirtual 72, 3) := dk_182 0 72 (dk_at dksX2_roomIn_0 18 rfl rfl)
theorem dX2_roomIn_21 : decode cX2_roomIn 21 = .ok (.ifCond .eq 9, 3) := dk_153 0 9 (dk_at dksX2_roomIn_0 21 rfl rfl)
theorem dX2_roomIn_24 : decode cX2_roomIn 24 = .ok (.iinc 2 1, 3) := dk_132 2 1 (dk_at dksX2_roomIn_1 0 rfl rfl)
theorem dX2_roomIn_27 : decode cX2_roomIn 27 = .ok (.goto (-11), 3) := dk_167 255 245 (dk_at dksX2_roomIn_1 3 rfl rfl)
theorem dX2_roomIn_30 : decode cX2_roomIn 30 = .ok (.aload_n 0, 1) := dk_42 (dk_at dksX2_roomIn_1 6 rfl rfl)
theorem dX2_roomIn_31 : decode cX2_roomIn 31 = .ok (.iload_n 2, 1) := dk_28 (dk_at dksX2_roomIn_1 7 rfl rfl)
theorem dX2_roomIn_32 : decode cX2_roomIn 32 = .ok (.invokevirtual 250, 3) := dk_182 0 250 (dk_at dksX2_roomIn_1 8 rfl rfl)
theorem dX2_roomIn_35 : decode cX2_roomIn 35 = .ok (.ireturn, 1) := dk_172 (dk_at dksX2_roomIn_1 11 rfl rfl)
abbrev cX2_bestFill : ByteArray := prog_10_method_92_code
def yX2_bestFill : MethodName := ⟨RX2, "bestFill", "(I)I"⟩
def dkwX2_bestFill_4 : List UInt8 := [54, 4, 132, 5, 1, 167, 255, 187, 28, 172]
abbrev dktX2_bestFill_4 : List UInt8 := dkwX2_bestFill_4 ++ []
def dkwX2_bestFill_3 : List UInt8 := [163, 0, 16, 21, 6, 29, 160, 0, 20, 21, 7, 21, 4, 164, 0, 13, 21, 5, 61, 21, 6, 62, 21, 7]
abbrev dktX2_bestFill_3 : List UInt8 := dkwX2_bestFill_3 ++ dktX2_bestFill_4
def dkwX2_bestFill_2 : List UInt8 := [182, 0, 193, 54, 6, 42, 42, 182, 1, 26, 182, 0, 250, 54, 7, 28, 2, 159, 0, 22, 21, 6, 29]
abbrev dktX2_bestFill_2 : List UInt8 := dkwX2_bestFill_2 ++ dktX2_bestFill_3
def dkwX2_bestFill_1 : List UInt8 := [3, 54, 4, 3, 54, 5, 21, 5, 42, 182, 0, 45, 162, 0, 66, 42, 182, 0, 244, 42, 21, 5, 27]
abbrev dktX2_bestFill_1 : List UInt8 := dkwX2_bestFill_1 ++ dktX2_bestFill_2
def dkwX2_bestFill_0 : List UInt8 := [42, 182, 1, 0, 154, 0, 14, 42, 27, 16, 99, 5, 182, 1, 29, 153, 0, 5, 3, 172, 2, 61, 3, 62]
abbrev dktX2_bestFill_0 : List UInt8 := dkwX2_bestFill_0 ++ dktX2_bestFill_1
theorem dksX2_bestFill_0 : cX2_bestFill.data.toList.drop 0 = dktX2_bestFill_0 := by decide +kernel
theorem dksX2_bestFill_1 : cX2_bestFill.data.toList.drop 24 = dktX2_bestFill_1 := dk_seg dksX2_bestFill_0 24 rfl rfl
theorem dksX2_bestFill_2 : cX2_bestFill.data.toList.drop 47 = dktX2_bestFill_2 := dk_seg dksX2_bestFill_1 23 rfl rfl
theorem dksX2_bestFill_3 : cX2_bestFill.data.toList.drop 70 = dktX2_bestFill_3 := dk_seg dksX2_bestFill_2 23 rfl rfl
theorem dksX2_bestFill_4 : cX2_bestFill.data.toList.drop 94 = dktX2_bestFill_4 := dk_seg dksX2_bestFill_3 24 rfl rfl
theorem dX2_bestFill_0 : decode cX2_bestFill 0 = .ok (.aload_n 0, 1) := dk_42 (dk_at dksX2_bestFill_0 0 rfl rfl)
theorem dX2_bestFill_1 : decode cX2_bestFill 1 = .ok (.invokevirtual 256, 3) := dk_182 1 0 (dk_at dksX2_bestFill_0 1 rfl rfl)
theorem dX2_bestFill_4 : decode cX2_bestFill 4 = .ok (.ifCond .ne 14, 3) := dk_154 0 14 (dk_at dksX2_bestFill_0 4 rfl rfl)
theorem dX2_bestFill_7 : decode cX2_bestFill 7 = .ok (.aload_n 0, 1) := dk_42 (dk_at dksX2_bestFill_0 7 rfl rfl)
theorem dX2_bestFill_8 : decode cX2_bestFill 8 = .ok (.iload_n 1, 1) := dk_27 (dk_at dksX2_bestFill_0 8 rfl rfl)
theorem dX2_bestFill_9 : decode cX2_bestFill 9 = .ok (.bipush 99, 2) := dk_16 99 (dk_at dksX2_bestFill_0 9 rfl rfl)
theorem dX2_bestFill_11 : decode cX2_bestFill 11 = .ok (.iconst 2, 1) := dk_5 (dk_at dksX2_bestFill_0 11 rfl rfl)
theorem dX2_bestFill_12 : decode cX2_bestFill 12 = .ok (.invokevirtual 285, 3) := dk_182 1 29 (dk_at dksX2_bestFill_0 12 rfl rfl)
theorem dX2_bestFill_15 : decode cX2_bestFill 15 = .ok (.ifCond .eq 5, 3) := dk_153 0 5 (dk_at dksX2_bestFill_0 15 rfl rfl)
theorem dX2_bestFill_18 : decode cX2_bestFill 18 = .ok (.iconst 0, 1) := dk_3 (dk_at dksX2_bestFill_0 18 rfl rfl)
theorem dX2_bestFill_19 : decode cX2_bestFill 19 = .ok (.ireturn, 1) := dk_172 (dk_at dksX2_bestFill_0 19 rfl rfl)
theorem dX2_bestFill_20 : decode cX2_bestFill 20 = .ok (.iconst (-1), 1) := dk_2 (dk_at dksX2_bestFill_0 20 rfl rfl)
theorem dX2_bestFill_21 : decode cX2_bestFill 21 = .ok (.istore_n 2, 1) := dk_61 (dk_at dksX2_bestFill_0 21 rfl rfl)
theorem dX2_bestFill_22 : decode cX2_bestFill 22 = .ok (.iconst 0, 1) := dk_3 (dk_at dksX2_bestFill_0 22 rfl rfl)
theorem dX2_bestFill_23 : decode cX2_bestFill 23 = .ok (.istore_n 3, 1) := dk_62 (dk_at dksX2_bestFill_0 23 rfl rfl)
theorem dX2_bestFill_24 : decode cX2_bestFill 24 = .ok (.iconst 0, 1) := dk_3 (dk_at dksX2_bestFill_1 0 rfl rfl)
theorem dX2_bestFill_25 : decode cX2_bestFill 25 = .ok (.istore 4, 2) := dk_54 4 (dk_at dksX2_bestFill_1 1 rfl rfl)
theorem dX2_bestFill_27 : decode cX2_bestFill 27 = .ok (.iconst 0, 1) := dk_3 (dk_at dksX2_bestFill_1 3 rfl rfl)
theorem dX2_bestFill_28 : decode cX2_bestFill 28 = .ok (.istore 5, 2) := dk_54 5 (dk_at dksX2_bestFill_1 4 rfl rfl)
theorem dX2_bestFill_30 : decode cX2_bestFill 30 = .ok (.iload 5, 2) := dk_21 5 (dk_at dksX2_bestFill_1 6 rfl rfl)
theorem dX2_bestFill_32 : decode cX2_bestFill 32 = .ok (.aload_n 0, 1) := dk_42 (dk_at dksX2_bestFill_1 8 rfl rfl)
theorem dX2_bestFill_33 : decode cX2_bestFill 33 = .ok (.invokevirtual 45, 3) := dk_182 0 45 (dk_at dksX2_bestFill_1 9 rfl rfl)
theorem dX2_bestFill_36 : decode cX2_bestFill 36 = .ok (.if_icmp .ge 66, 3) := dk_162 0 66 (dk_at dksX2_bestFill_1 12 rfl rfl)
theorem dX2_bestFill_39 : decode cX2_bestFill 39 = .ok (.aload_n 0, 1) := dk_42 (dk_at dksX2_bestFill_1 15 rfl rfl)
theorem dX2_bestFill_40 : decode cX2_bestFill 40 = .ok (.invokevirtual 244, 3) := dk_182 0 244 (dk_at dksX2_bestFill_1 16 rfl rfl)
theorem dX2_bestFill_43 : decode cX2_bestFill 43 = .ok (.aload_n 0, 1) := dk_42 (dk_at dksX2_bestFill_1 19 rfl rfl)
theorem dX2_bestFill_44 : decode cX2_bestFill 44 = .ok (.iload 5, 2) := dk_21 5 (dk_at dksX2_bestFill_1 20 rfl rfl)
theorem dX2_bestFill_46 : decode cX2_bestFill 46 = .ok (.iload_n 1, 1) := dk_27 (dk_at dksX2_bestFill_1 22 rfl rfl)
theorem dX2_bestFill_47 : decode cX2_bestFill 47 = .ok (.invokevirtual 193, 3) := dk_182 0 193 (dk_at dksX2_bestFill_2 0 rfl rfl)
theorem dX2_bestFill_50 : decode cX2_bestFill 50 = .ok (.istore 6, 2) := dk_54 6 (dk_at dksX2_bestFill_2 3 rfl rfl)
theorem dX2_bestFill_52 : decode cX2_bestFill 52 = .ok (.aload_n 0, 1) := dk_42 (dk_at dksX2_bestFill_2 5 rfl rfl)
theorem dX2_bestFill_53 : decode cX2_bestFill 53 = .ok (.aload_n 0, 1) := dk_42 (dk_at dksX2_bestFill_2 6 rfl rfl)
theorem dX2_bestFill_54 : decode cX2_bestFill 54 = .ok (.invokevirtual 282, 3) := dk_182 1 26 (dk_at dksX2_bestFill_2 7 rfl rfl)
theorem dX2_bestFill_57 : decode cX2_bestFill 57 = .ok (.invokevirtual 250, 3) := dk_182 0 250 (dk_at dksX2_bestFill_2 10 rfl rfl)
theorem dX2_bestFill_60 : decode cX2_bestFill 60 = .ok (.istore 7, 2) := dk_54 7 (dk_at dksX2_bestFill_2 13 rfl rfl)
theorem dX2_bestFill_62 : decode cX2_bestFill 62 = .ok (.iload_n 2, 1) := dk_28 (dk_at dksX2_bestFill_2 15 rfl rfl)
theorem dX2_bestFill_63 : decode cX2_bestFill 63 = .ok (.iconst (-1), 1) := dk_2 (dk_at dksX2_bestFill_2 16 rfl rfl)
theorem dX2_bestFill_64 : decode cX2_bestFill 64 = .ok (.if_icmp .eq 22, 3) := dk_159 0 22 (dk_at dksX2_bestFill_2 17 rfl rfl)
theorem dX2_bestFill_67 : decode cX2_bestFill 67 = .ok (.iload 6, 2) := dk_21 6 (dk_at dksX2_bestFill_2 20 rfl rfl)
theorem dX2_bestFill_69 : decode cX2_bestFill 69 = .ok (.iload_n 3, 1) := dk_29 (dk_at dksX2_bestFill_2 22 rfl rfl)
theorem dX2_bestFill_70 : decode cX2_bestFill 70 = .ok (.if_icmp .gt 16, 3) := dk_163 0 16 (dk_at dksX2_bestFill_3 0 rfl rfl)
theorem dX2_bestFill_73 : decode cX2_bestFill 73 = .ok (.iload 6, 2) := dk_21 6 (dk_at dksX2_bestFill_3 3 rfl rfl)
theorem dX2_bestFill_75 : decode cX2_bestFill 75 = .ok (.iload_n 3, 1) := dk_29 (dk_at dksX2_bestFill_3 5 rfl rfl)
theorem dX2_bestFill_76 : decode cX2_bestFill 76 = .ok (.if_icmp .ne 20, 3) := dk_160 0 20 (dk_at dksX2_bestFill_3 6 rfl rfl)
theorem dX2_bestFill_79 : decode cX2_bestFill 79 = .ok (.iload 7, 2) := dk_21 7 (dk_at dksX2_bestFill_3 9 rfl rfl)
theorem dX2_bestFill_81 : decode cX2_bestFill 81 = .ok (.iload 4, 2) := dk_21 4 (dk_at dksX2_bestFill_3 11 rfl rfl)
theorem dX2_bestFill_83 : decode cX2_bestFill 83 = .ok (.if_icmp .le 13, 3) := dk_164 0 13 (dk_at dksX2_bestFill_3 13 rfl rfl)
theorem dX2_bestFill_86 : decode cX2_bestFill 86 = .ok (.iload 5, 2) := dk_21 5 (dk_at dksX2_bestFill_3 16 rfl rfl)
theorem dX2_bestFill_88 : decode cX2_bestFill 88 = .ok (.istore_n 2, 1) := dk_61 (dk_at dksX2_bestFill_3 18 rfl rfl)
theorem dX2_bestFill_89 : decode cX2_bestFill 89 = .ok (.iload 6, 2) := dk_21 6 (dk_at dksX2_bestFill_3 19 rfl rfl)
theorem dX2_bestFill_91 : decode cX2_bestFill 91 = .ok (.istore_n 3, 1) := dk_62 (dk_at dksX2_bestFill_3 21 rfl rfl)
theorem dX2_bestFill_92 : decode cX2_bestFill 92 = .ok (.iload 7, 2) := dk_21 7 (dk_at dksX2_bestFill_3 22 rfl rfl)
theorem dX2_bestFill_94 : decode cX2_bestFill 94 = .ok (.istore 4, 2) := dk_54 4 (dk_at dksX2_bestFill_4 0 rfl rfl)
theorem dX2_bestFill_96 : decode cX2_bestFill 96 = .ok (.iinc 5 1, 3) := dk_132 5 1 (dk_at dksX2_bestFill_4 2 rfl rfl)
theorem dX2_bestFill_99 : decode cX2_bestFill 99 = .ok (.goto (-69), 3) := dk_167 255 187 (dk_at dksX2_bestFill_4 5 rfl rfl)
theorem dX2_bestFill_102 : decode cX2_bestFill 102 = .ok (.iload_n 2, 1) := dk_28 (dk_at dksX2_bestFill_4 8 rfl rfl)
theorem dX2_bestFill_103 : decode cX2_bestFill 103 = .ok (.ireturn, 1) := dk_172 (dk_at dksX2_bestFill_4 9 rfl rfl)
abbrev cX2_fillTo : ByteArray := prog_10_method_93_code
def yX2_fillTo : MethodName := ⟨RX2, "fillTo", "(II)I"⟩
def dkwX2_fillTo_3 : List UInt8 := [42, 42, 182, 1, 26, 28, 161, 0, 7, 29, 167, 0, 4, 2, 182, 0, 250, 172]
abbrev dktX2_fillTo_3 : List UInt8 := dkwX2_fillTo_3 ++ []
def dkwX2_fillTo_2 : List UInt8 := [162, 0, 24, 42, 182, 1, 26, 28, 162, 0, 16, 42, 27, 182, 0, 72, 54, 4, 132, 3, 1, 167, 255, 231]
abbrev dktX2_fillTo_2 : List UInt8 := dkwX2_fillTo_2 ++ dktX2_fillTo_3
def dkwX2_fillTo_1 : List UInt8 := [167, 0, 4, 3, 6, 182, 0, 37, 153, 0, 5, 3, 172, 42, 182, 0, 244, 3, 62, 29, 17, 3, 231]
abbrev dktX2_fillTo_1 : List UInt8 := dkwX2_fillTo_1 ++ dktX2_fillTo_2
def dkwX2_fillTo_0 : List UInt8 := [42, 27, 182, 1, 19, 154, 0, 30, 42, 28, 133, 9, 42, 182, 0, 60, 133, 184, 0, 170, 154, 0, 7, 4]
abbrev dktX2_fillTo_0 : List UInt8 := dkwX2_fillTo_0 ++ dktX2_fillTo_1
theorem dksX2_fillTo_0 : cX2_fillTo.data.toList.drop 0 = dktX2_fillTo_0 := by decide +kernel
theorem dksX2_fillTo_1 : cX2_fillTo.data.toList.drop 24 = dktX2_fillTo_1 := dk_seg dksX2_fillTo_0 24 rfl rfl
theorem dksX2_fillTo_2 : cX2_fillTo.data.toList.drop 47 = dktX2_fillTo_2 := dk_seg dksX2_fillTo_1 23 rfl rfl
theorem dksX2_fillTo_3 : cX2_fillTo.data.toList.drop 71 = dktX2_fillTo_3 := dk_seg dksX2_fillTo_2 24 rfl rfl
theorem dX2_fillTo_0 : decode cX2_fillTo 0 = .ok (.aload_n 0, 1) := dk_42 (dk_at dksX2_fillTo_0 0 rfl rfl)
theorem dX2_fillTo_1 : decode cX2_fillTo 1 = .ok (.iload_n 1, 1) := dk_27 (dk_at dksX2_fillTo_0 1 rfl rfl)
theorem dX2_fillTo_2 : decode cX2_fillTo 2 = .ok (.invokevirtual 275, 3) := dk_182 1 19 (dk_at dksX2_fillTo_0 2 rfl rfl)
theorem dX2_fillTo_5 : decode cX2_fillTo 5 = .ok (.ifCond .ne 30, 3) := dk_154 0 30 (dk_at dksX2_fillTo_0 5 rfl rfl)
theorem dX2_fillTo_8 : decode cX2_fillTo 8 = .ok (.aload_n 0, 1) := dk_42 (dk_at dksX2_fillTo_0 8 rfl rfl)
theorem dX2_fillTo_9 : decode cX2_fillTo 9 = .ok (.iload_n 2, 1) := dk_28 (dk_at dksX2_fillTo_0 9 rfl rfl)
theorem dX2_fillTo_10 : decode cX2_fillTo 10 = .ok (.i2l, 1) := dk_133 (dk_at dksX2_fillTo_0 10 rfl rfl)
theorem dX2_fillTo_11 : decode cX2_fillTo 11 = .ok (.lconst 0, 1) := dk_9 (dk_at dksX2_fillTo_0 11 rfl rfl)
theorem dX2_fillTo_12 : decode cX2_fillTo 12 = .ok (.aload_n 0, 1) := dk_42 (dk_at dksX2_fillTo_0 12 rfl rfl)
theorem dX2_fillTo_13 : decode cX2_fillTo 13 = .ok (.invokevirtual 60, 3) := dk_182 0 60 (dk_at dksX2_fillTo_0 13 rfl rfl)
theorem dX2_fillTo_16 : decode cX2_fillTo 16 = .ok (.i2l, 1) := dk_133 (dk_at dksX2_fillTo_0 16 rfl rfl)
theorem dX2_fillTo_17 : decode cX2_fillTo 17 = .ok (.invokestatic 170, 3) := dk_184 0 170 (dk_at dksX2_fillTo_0 17 rfl rfl)
theorem dX2_fillTo_20 : decode cX2_fillTo 20 = .ok (.ifCond .ne 7, 3) := dk_154 0 7 (dk_at dksX2_fillTo_0 20 rfl rfl)
theorem dX2_fillTo_23 : decode cX2_fillTo 23 = .ok (.iconst 1, 1) := dk_4 (dk_at dksX2_fillTo_0 23 rfl rfl)
theorem dX2_fillTo_24 : decode cX2_fillTo 24 = .ok (.goto 4, 3) := dk_167 0 4 (dk_at dksX2_fillTo_1 0 rfl rfl)
theorem dX2_fillTo_27 : decode cX2_fillTo 27 = .ok (.iconst 0, 1) := dk_3 (dk_at dksX2_fillTo_1 3 rfl rfl)
theorem dX2_fillTo_28 : decode cX2_fillTo 28 = .ok (.iconst 3, 1) := dk_6 (dk_at dksX2_fillTo_1 4 rfl rfl)
theorem dX2_fillTo_29 : decode cX2_fillTo 29 = .ok (.invokevirtual 37, 3) := dk_182 0 37 (dk_at dksX2_fillTo_1 5 rfl rfl)
theorem dX2_fillTo_32 : decode cX2_fillTo 32 = .ok (.ifCond .eq 5, 3) := dk_153 0 5 (dk_at dksX2_fillTo_1 8 rfl rfl)
theorem dX2_fillTo_35 : decode cX2_fillTo 35 = .ok (.iconst 0, 1) := dk_3 (dk_at dksX2_fillTo_1 11 rfl rfl)
theorem dX2_fillTo_36 : decode cX2_fillTo 36 = .ok (.ireturn, 1) := dk_172 (dk_at dksX2_fillTo_1 12 rfl rfl)
theorem dX2_fillTo_37 : decode cX2_fillTo 37 = .ok (.aload_n 0, 1) := dk_42 (dk_at dksX2_fillTo_1 13 rfl rfl)
theorem dX2_fillTo_38 : decode cX2_fillTo 38 = .ok (.invokevirtual 244, 3) := dk_182 0 244 (dk_at dksX2_fillTo_1 14 rfl rfl)
theorem dX2_fillTo_41 : decode cX2_fillTo 41 = .ok (.iconst 0, 1) := dk_3 (dk_at dksX2_fillTo_1 17 rfl rfl)
theorem dX2_fillTo_42 : decode cX2_fillTo 42 = .ok (.istore_n 3, 1) := dk_62 (dk_at dksX2_fillTo_1 18 rfl rfl)
theorem dX2_fillTo_43 : decode cX2_fillTo 43 = .ok (.iload_n 3, 1) := dk_29 (dk_at dksX2_fillTo_1 19 rfl rfl)
theorem dX2_fillTo_44 : decode cX2_fillTo 44 = .ok (.sipush 999, 3) := dk_17 3 231 (dk_at dksX2_fillTo_1 20 rfl rfl)
theorem dX2_fillTo_47 : decode cX2_fillTo 47 = .ok (.if_icmp .ge 24, 3) := dk_162 0 24 (dk_at dksX2_fillTo_2 0 rfl rfl)
theorem dX2_fillTo_50 : decode cX2_fillTo 50 = .ok (.aload_n 0, 1) := dk_42 (dk_at dksX2_fillTo_2 3 rfl rfl)
theorem dX2_fillTo_51 : decode cX2_fillTo 51 = .ok (.invokevirtual 282, 3) := dk_182 1 26 (dk_at dksX2_fillTo_2 4 rfl rfl)
theorem dX2_fillTo_54 : decode cX2_fillTo 54 = .ok (.iload_n 2, 1) := dk_28 (dk_at dksX2_fillTo_2 7 rfl rfl)
theorem dX2_fillTo_55 : decode cX2_fillTo 55 = .ok (.if_icmp .ge 16, 3) := dk_162 0 16 (dk_at dksX2_fillTo_2 8 rfl rfl)
theorem dX2_fillTo_58 : decode cX2_fillTo 58 = .ok (.aload_n 0, 1) := dk_42 (dk_at dksX2_fillTo_2 11 rfl rfl)
theorem dX2_fillTo_59 : decode cX2_fillTo 59 = .ok (.iload_n 1, 1) := dk_27 (dk_at dksX2_fillTo_2 12 rfl rfl)
theorem dX2_fillTo_60 : decode cX2_fillTo 60 = .ok (.invokevirtual 72, 3) := dk_182 0 72 (dk_at dksX2_fillTo_2 13 rfl rfl)
theorem dX2_fillTo_63 : decode cX2_fillTo 63 = .ok (.istore 4, 2) := dk_54 4 (dk_at dksX2_fillTo_2 16 rfl rfl)
theorem dX2_fillTo_65 : decode cX2_fillTo 65 = .ok (.iinc 3 1, 3) := dk_132 3 1 (dk_at dksX2_fillTo_2 18 rfl rfl)
theorem dX2_fillTo_68 : decode cX2_fillTo 68 = .ok (.goto (-25), 3) := dk_167 255 231 (dk_at dksX2_fillTo_2 21 rfl rfl)
theorem dX2_fillTo_71 : decode cX2_fillTo 71 = .ok (.aload_n 0, 1) := dk_42 (dk_at dksX2_fillTo_3 0 rfl rfl)
theorem dX2_fillTo_72 : decode cX2_fillTo 72 = .ok (.aload_n 0, 1) := dk_42 (dk_at dksX2_fillTo_3 1 rfl rfl)
theorem dX2_fillTo_73 : decode cX2_fillTo 73 = .ok (.invokevirtual 282, 3) := dk_182 1 26 (dk_at dksX2_fillTo_3 2 rfl rfl)
theorem dX2_fillTo_76 : decode cX2_fillTo 76 = .ok (.iload_n 2, 1) := dk_28 (dk_at dksX2_fillTo_3 5 rfl rfl)
theorem dX2_fillTo_77 : decode cX2_fillTo 77 = .ok (.if_icmp .lt 7, 3) := dk_161 0 7 (dk_at dksX2_fillTo_3 6 rfl rfl)
theorem dX2_fillTo_80 : decode cX2_fillTo 80 = .ok (.iload_n 3, 1) := dk_29 (dk_at dksX2_fillTo_3 9 rfl rfl)
theorem dX2_fillTo_81 : decode cX2_fillTo 81 = .ok (.goto 4, 3) := dk_167 0 4 (dk_at dksX2_fillTo_3 10 rfl rfl)
theorem dX2_fillTo_84 : decode cX2_fillTo 84 = .ok (.iconst (-1), 1) := dk_2 (dk_at dksX2_fillTo_3 13 rfl rfl)
theorem dX2_fillTo_85 : decode cX2_fillTo 85 = .ok (.invokevirtual 250, 3) := dk_182 0 250 (dk_at dksX2_fillTo_3 14 rfl rfl)
theorem dX2_fillTo_88 : decode cX2_fillTo 88 = .ok (.ireturn, 1) := dk_172 (dk_at dksX2_fillTo_3 17 rfl rfl)
abbrev cX2_drawable : ByteArray := prog_10_method_94_code
def yX2_drawable : MethodName := ⟨RX2, "drawable", "()I"⟩
def dkwX2_drawable_0 : List UInt8 := [42, 182, 1, 0, 153, 0, 5, 3, 172, 42, 182, 0, 244, 42, 42, 182, 1, 37, 182, 0, 250, 172]
abbrev dktX2_drawable_0 : List UInt8 := dkwX2_drawable_0 ++ []
theorem dksX2_drawable_0 : cX2_drawable.data.toList.drop 0 = dktX2_drawable_0 := by decide +kernel
theorem dX2_drawable_0 : decode cX2_drawable 0 = .ok (.aload_n 0, 1) := dk_42 (dk_at dksX2_drawable_0 0 rfl rfl)
theorem dX2_drawable_1 : decode cX2_drawable 1 = .ok (.invokevirtual 256, 3) := dk_182 1 0 (dk_at dksX2_drawable_0 1 rfl rfl)
theorem dX2_drawable_4 : decode cX2_drawable 4 = .ok (.ifCond .eq 5, 3) := dk_153 0 5 (dk_at dksX2_drawable_0 4 rfl rfl)
theorem dX2_drawable_7 : decode cX2_drawable 7 = .ok (.iconst 0, 1) := dk_3 (dk_at dksX2_drawable_0 7 rfl rfl)
theorem dX2_drawable_8 : decode cX2_drawable 8 = .ok (.ireturn, 1) := dk_172 (dk_at dksX2_drawable_0 8 rfl rfl)
theorem dX2_drawable_9 : decode cX2_drawable 9 = .ok (.aload_n 0, 1) := dk_42 (dk_at dksX2_drawable_0 9 rfl rfl)
theorem dX2_drawable_10 : decode cX2_drawable 10 = .ok (.invokevirtual 244, 3) := dk_182 0 244 (dk_at dksX2_drawable_0 10 rfl rfl)
theorem dX2_drawable_13 : decode cX2_drawable 13 = .ok (.aload_n 0, 1) := dk_42 (dk_at dksX2_drawable_0 13 rfl rfl)
theorem dX2_drawable_14 : decode cX2_drawable 14 = .ok (.aload_n 0, 1) := dk_42 (dk_at dksX2_drawable_0 14 rfl rfl)
theorem dX2_drawable_15 : decode cX2_drawable 15 = .ok (.invokevirtual 293, 3) := dk_182 1 37 (dk_at dksX2_drawable_0 15 rfl rfl)
theorem dX2_drawable_18 : decode cX2_drawable 18 = .ok (.invokevirtual 250, 3) := dk_182 0 250 (dk_at dksX2_drawable_0 18 rfl rfl)
theorem dX2_drawable_21 : decode cX2_drawable 21 = .ok (.ireturn, 1) := dk_172 (dk_at dksX2_drawable_0 21 rfl rfl)
abbrev cX2_drawsAll : ByteArray := prog_10_method_21_code
def yX2_drawsAll : MethodName := ⟨RX2, "drawsAll", "()I"⟩
def dkwX2_drawsAll_0 : List UInt8 := [3, 60, 42, 182, 0, 79, 153, 0, 9, 132, 1, 1, 167, 255, 246, 27, 172]
abbrev dktX2_drawsAll_0 : List UInt8 := dkwX2_drawsAll_0 ++ []
theorem dksX2_drawsAll_0 : cX2_drawsAll.data.toList.drop 0 = dktX2_drawsAll_0 := by decide +kernel
theorem dX2_drawsAll_0 : decode cX2_drawsAll 0 = .ok (.iconst 0, 1) := dk_3 (dk_at dksX2_drawsAll_0 0 rfl rfl)
theorem dX2_drawsAll_1 : decode cX2_drawsAll 1 = .ok (.istore_n 1, 1) := dk_60 (dk_at dksX2_drawsAll_0 1 rfl rfl)
theorem dX2_drawsAll_2 : decode cX2_drawsAll 2 = .ok (.aload_n 0, 1) := dk_42 (dk_at dksX2_drawsAll_0 2 rfl rfl)
theorem dX2_drawsAll_3 : decode cX2_drawsAll 3 = .ok (.invokevirtual 79, 3) := dk_182 0 79 (dk_at dksX2_drawsAll_0 3 rfl rfl)
theorem dX2_drawsAll_6 : decode cX2_drawsAll 6 = .ok (.ifCond .eq 9, 3) := dk_153 0 9 (dk_at dksX2_drawsAll_0 6 rfl rfl)
theorem dX2_drawsAll_9 : decode cX2_drawsAll 9 = .ok (.iinc 1 1, 3) := dk_132 1 1 (dk_at dksX2_drawsAll_0 9 rfl rfl)
theorem dX2_drawsAll_12 : decode cX2_drawsAll 12 = .ok (.goto (-10), 3) := dk_167 255 246 (dk_at dksX2_drawsAll_0 12 rfl rfl)
theorem dX2_drawsAll_15 : decode cX2_drawsAll 15 = .ok (.iload_n 1, 1) := dk_27 (dk_at dksX2_drawsAll_0 15 rfl rfl)
theorem dX2_drawsAll_16 : decode cX2_drawsAll 16 = .ok (.ireturn, 1) := dk_172 (dk_at dksX2_drawsAll_0 16 rfl rfl)
abbrev cX2_drawableIf : ByteArray := prog_10_method_96_code
def yX2_drawableIf : MethodName := ⟨RX2, "drawableIf", "(I)I"⟩
def dkwX2_drawableIf_0 : List UInt8 := [42, 27, 182, 1, 19, 153, 0, 7, 3, 167, 0, 8, 42, 27, 182, 1, 40, 172]
abbrev dktX2_drawableIf_0 : List UInt8 := dkwX2_drawableIf_0 ++ []
theorem dksX2_drawableIf_0 : cX2_drawableIf.data.toList.drop 0 = dktX2_drawableIf_0 := by decide +kernel
theorem dX2_drawableIf_0 : decode cX2_drawableIf 0 = .ok (.aload_n 0, 1) := dk_42 (dk_at dksX2_drawableIf_0 0 rfl rfl)
theorem dX2_drawableIf_1 : decode cX2_drawableIf 1 = .ok (.iload_n 1, 1) := dk_27 (dk_at dksX2_drawableIf_0 1 rfl rfl)
theorem dX2_drawableIf_2 : decode cX2_drawableIf 2 = .ok (.invokevirtual 275, 3) := dk_182 1 19 (dk_at dksX2_drawableIf_0 2 rfl rfl)
theorem dX2_drawableIf_5 : decode cX2_drawableIf 5 = .ok (.ifCond .eq 7, 3) := dk_153 0 7 (dk_at dksX2_drawableIf_0 5 rfl rfl)
theorem dX2_drawableIf_8 : decode cX2_drawableIf 8 = .ok (.iconst 0, 1) := dk_3 (dk_at dksX2_drawableIf_0 8 rfl rfl)
theorem dX2_drawableIf_9 : decode cX2_drawableIf 9 = .ok (.goto 8, 3) := dk_167 0 8 (dk_at dksX2_drawableIf_0 9 rfl rfl)
theorem dX2_drawableIf_12 : decode cX2_drawableIf 12 = .ok (.aload_n 0, 1) := dk_42 (dk_at dksX2_drawableIf_0 12 rfl rfl)
theorem dX2_drawableIf_13 : decode cX2_drawableIf 13 = .ok (.iload_n 1, 1) := dk_27 (dk_at dksX2_drawableIf_0 13 rfl rfl)
theorem dX2_drawableIf_14 : decode cX2_drawableIf 14 = .ok (.invokevirtual 296, 3) := dk_182 1 40 (dk_at dksX2_drawableIf_0 14 rfl rfl)
theorem dX2_drawableIf_17 : decode cX2_drawableIf 17 = .ok (.ireturn, 1) := dk_172 (dk_at dksX2_drawableIf_0 17 rfl rfl)
abbrev cX2_drawableBy : ByteArray := prog_10_method_95_code
def yX2_drawableBy : MethodName := ⟨RX2, "drawableBy", "(I)I"⟩
def dkwX2_drawableBy_1 : List UInt8 := [182, 0, 250, 172]
abbrev dktX2_drawableBy_1 : List UInt8 := dkwX2_drawableBy_1 ++ []
def dkwX2_drawableBy_0 : List UInt8 := [42, 182, 0, 244, 42, 180, 0, 7, 16, 31, 27, 96, 3, 79, 42, 182, 0, 69, 61, 42, 42, 182, 1, 37]
abbrev dktX2_drawableBy_0 : List UInt8 := dkwX2_drawableBy_0 ++ dktX2_drawableBy_1
theorem dksX2_drawableBy_0 : cX2_drawableBy.data.toList.drop 0 = dktX2_drawableBy_0 := by decide +kernel
theorem dksX2_drawableBy_1 : cX2_drawableBy.data.toList.drop 24 = dktX2_drawableBy_1 := dk_seg dksX2_drawableBy_0 24 rfl rfl
theorem dX2_drawableBy_0 : decode cX2_drawableBy 0 = .ok (.aload_n 0, 1) := dk_42 (dk_at dksX2_drawableBy_0 0 rfl rfl)
theorem dX2_drawableBy_1 : decode cX2_drawableBy 1 = .ok (.invokevirtual 244, 3) := dk_182 0 244 (dk_at dksX2_drawableBy_0 1 rfl rfl)
theorem dX2_drawableBy_4 : decode cX2_drawableBy 4 = .ok (.aload_n 0, 1) := dk_42 (dk_at dksX2_drawableBy_0 4 rfl rfl)
theorem dX2_drawableBy_5 : decode cX2_drawableBy 5 = .ok (.getfield 7, 3) := dk_180 0 7 (dk_at dksX2_drawableBy_0 5 rfl rfl)
theorem dX2_drawableBy_8 : decode cX2_drawableBy 8 = .ok (.bipush 31, 2) := dk_16 31 (dk_at dksX2_drawableBy_0 8 rfl rfl)
theorem dX2_drawableBy_10 : decode cX2_drawableBy 10 = .ok (.iload_n 1, 1) := dk_27 (dk_at dksX2_drawableBy_0 10 rfl rfl)
theorem dX2_drawableBy_11 : decode cX2_drawableBy 11 = .ok (.iadd, 1) := dk_96 (dk_at dksX2_drawableBy_0 11 rfl rfl)
theorem dX2_drawableBy_12 : decode cX2_drawableBy 12 = .ok (.iconst 0, 1) := dk_3 (dk_at dksX2_drawableBy_0 12 rfl rfl)
theorem dX2_drawableBy_13 : decode cX2_drawableBy 13 = .ok (.iastore, 1) := dk_79 (dk_at dksX2_drawableBy_0 13 rfl rfl)
theorem dX2_drawableBy_14 : decode cX2_drawableBy 14 = .ok (.aload_n 0, 1) := dk_42 (dk_at dksX2_drawableBy_0 14 rfl rfl)
theorem dX2_drawableBy_15 : decode cX2_drawableBy 15 = .ok (.invokevirtual 69, 3) := dk_182 0 69 (dk_at dksX2_drawableBy_0 15 rfl rfl)
theorem dX2_drawableBy_18 : decode cX2_drawableBy 18 = .ok (.istore_n 2, 1) := dk_61 (dk_at dksX2_drawableBy_0 18 rfl rfl)
theorem dX2_drawableBy_19 : decode cX2_drawableBy 19 = .ok (.aload_n 0, 1) := dk_42 (dk_at dksX2_drawableBy_0 19 rfl rfl)
theorem dX2_drawableBy_20 : decode cX2_drawableBy 20 = .ok (.aload_n 0, 1) := dk_42 (dk_at dksX2_drawableBy_0 20 rfl rfl)
theorem dX2_drawableBy_21 : decode cX2_drawableBy 21 = .ok (.invokevirtual 293, 3) := dk_182 1 37 (dk_at dksX2_drawableBy_0 21 rfl rfl)
theorem dX2_drawableBy_24 : decode cX2_drawableBy 24 = .ok (.invokevirtual 250, 3) := dk_182 0 250 (dk_at dksX2_drawableBy_1 0 rfl rfl)
theorem dX2_drawableBy_27 : decode cX2_drawableBy 27 = .ok (.ireturn, 1) := dk_172 (dk_at dksX2_drawableBy_1 3 rfl rfl)
abbrev cX2_bestLoosened : ByteArray := prog_10_method_97_code
def yX2_bestLoosened : MethodName := ⟨RX2, "bestLoosened", "()I"⟩
def dkwX2_bestLoosened_2 : List UInt8 := [172]
abbrev dktX2_bestLoosened_2 : List UInt8 := dkwX2_bestLoosened_2 ++ []
def dkwX2_bestLoosened_1 : List UInt8 := [182, 1, 40, 42, 27, 182, 1, 40, 164, 0, 7, 28, 167, 0, 4, 27, 60, 132, 2, 1, 167, 255, 226, 27]
abbrev dktX2_bestLoosened_1 : List UInt8 := dkwX2_bestLoosened_1 ++ dktX2_bestLoosened_2
def dkwX2_bestLoosened_0 : List UInt8 := [42, 182, 1, 0, 153, 0, 5, 3, 172, 3, 60, 4, 61, 28, 42, 182, 0, 45, 162, 0, 28, 42, 28]
abbrev dktX2_bestLoosened_0 : List UInt8 := dkwX2_bestLoosened_0 ++ dktX2_bestLoosened_1
theorem dksX2_bestLoosened_0 : cX2_bestLoosened.data.toList.drop 0 = dktX2_bestLoosened_0 := by decide +kernel
theorem dksX2_bestLoosened_1 : cX2_bestLoosened.data.toList.drop 23 = dktX2_bestLoosened_1 := dk_seg dksX2_bestLoosened_0 23 rfl rfl
theorem dksX2_bestLoosened_2 : cX2_bestLoosened.data.toList.drop 47 = dktX2_bestLoosened_2 := dk_seg dksX2_bestLoosened_1 24 rfl rfl
theorem dX2_bestLoosened_0 : decode cX2_bestLoosened 0 = .ok (.aload_n 0, 1) := dk_42 (dk_at dksX2_bestLoosened_0 0 rfl rfl)
theorem dX2_bestLoosened_1 : decode cX2_bestLoosened 1 = .ok (.invokevirtual 256, 3) := dk_182 1 0 (dk_at dksX2_bestLoosened_0 1 rfl rfl)
theorem dX2_bestLoosened_4 : decode cX2_bestLoosened 4 = .ok (.ifCond .eq 5, 3) := dk_153 0 5 (dk_at dksX2_bestLoosened_0 4 rfl rfl)
theorem dX2_bestLoosened_7 : decode cX2_bestLoosened 7 = .ok (.iconst 0, 1) := dk_3 (dk_at dksX2_bestLoosened_0 7 rfl rfl)
theorem dX2_bestLoosened_8 : decode cX2_bestLoosened 8 = .ok (.ireturn, 1) := dk_172 (dk_at dksX2_bestLoosened_0 8 rfl rfl)
theorem dX2_bestLoosened_9 : decode cX2_bestLoosened 9 = .ok (.iconst 0, 1) := dk_3 (dk_at dksX2_bestLoosened_0 9 rfl rfl)
theorem dX2_bestLoosened_10 : decode cX2_bestLoosened 10 = .ok (.istore_n 1, 1) := dk_60 (dk_at dksX2_bestLoosened_0 10 rfl rfl)
theorem dX2_bestLoosened_11 : decode cX2_bestLoosened 11 = .ok (.iconst 1, 1) := dk_4 (dk_at dksX2_bestLoosened_0 11 rfl rfl)
theorem dX2_bestLoosened_12 : decode cX2_bestLoosened 12 = .ok (.istore_n 2, 1) := dk_61 (dk_at dksX2_bestLoosened_0 12 rfl rfl)
theorem dX2_bestLoosened_13 : decode cX2_bestLoosened 13 = .ok (.iload_n 2, 1) := dk_28 (dk_at dksX2_bestLoosened_0 13 rfl rfl)
theorem dX2_bestLoosened_14 : decode cX2_bestLoosened 14 = .ok (.aload_n 0, 1) := dk_42 (dk_at dksX2_bestLoosened_0 14 rfl rfl)
theorem dX2_bestLoosened_15 : decode cX2_bestLoosened 15 = .ok (.invokevirtual 45, 3) := dk_182 0 45 (dk_at dksX2_bestLoosened_0 15 rfl rfl)
theorem dX2_bestLoosened_18 : decode cX2_bestLoosened 18 = .ok (.if_icmp .ge 28, 3) := dk_162 0 28 (dk_at dksX2_bestLoosened_0 18 rfl rfl)
theorem dX2_bestLoosened_21 : decode cX2_bestLoosened 21 = .ok (.aload_n 0, 1) := dk_42 (dk_at dksX2_bestLoosened_0 21 rfl rfl)
theorem dX2_bestLoosened_22 : decode cX2_bestLoosened 22 = .ok (.iload_n 2, 1) := dk_28 (dk_at dksX2_bestLoosened_0 22 rfl rfl)
theorem dX2_bestLoosened_23 : decode cX2_bestLoosened 23 = .ok (.invokevirtual 296, 3) := dk_182 1 40 (dk_at dksX2_bestLoosened_1 0 rfl rfl)
theorem dX2_bestLoosened_26 : decode cX2_bestLoosened 26 = .ok (.aload_n 0, 1) := dk_42 (dk_at dksX2_bestLoosened_1 3 rfl rfl)
theorem dX2_bestLoosened_27 : decode cX2_bestLoosened 27 = .ok (.iload_n 1, 1) := dk_27 (dk_at dksX2_bestLoosened_1 4 rfl rfl)
theorem dX2_bestLoosened_28 : decode cX2_bestLoosened 28 = .ok (.invokevirtual 296, 3) := dk_182 1 40 (dk_at dksX2_bestLoosened_1 5 rfl rfl)
theorem dX2_bestLoosened_31 : decode cX2_bestLoosened 31 = .ok (.if_icmp .le 7, 3) := dk_164 0 7 (dk_at dksX2_bestLoosened_1 8 rfl rfl)
theorem dX2_bestLoosened_34 : decode cX2_bestLoosened 34 = .ok (.iload_n 2, 1) := dk_28 (dk_at dksX2_bestLoosened_1 11 rfl rfl)
theorem dX2_bestLoosened_35 : decode cX2_bestLoosened 35 = .ok (.goto 4, 3) := dk_167 0 4 (dk_at dksX2_bestLoosened_1 12 rfl rfl)
theorem dX2_bestLoosened_38 : decode cX2_bestLoosened 38 = .ok (.iload_n 1, 1) := dk_27 (dk_at dksX2_bestLoosened_1 15 rfl rfl)
theorem dX2_bestLoosened_39 : decode cX2_bestLoosened 39 = .ok (.istore_n 1, 1) := dk_60 (dk_at dksX2_bestLoosened_1 16 rfl rfl)
theorem dX2_bestLoosened_40 : decode cX2_bestLoosened 40 = .ok (.iinc 2 1, 3) := dk_132 2 1 (dk_at dksX2_bestLoosened_1 17 rfl rfl)
theorem dX2_bestLoosened_43 : decode cX2_bestLoosened 43 = .ok (.goto (-30), 3) := dk_167 255 226 (dk_at dksX2_bestLoosened_1 20 rfl rfl)
theorem dX2_bestLoosened_46 : decode cX2_bestLoosened 46 = .ok (.iload_n 1, 1) := dk_27 (dk_at dksX2_bestLoosened_1 23 rfl rfl)
theorem dX2_bestLoosened_47 : decode cX2_bestLoosened 47 = .ok (.ireturn, 1) := dk_172 (dk_at dksX2_bestLoosened_2 0 rfl rfl)
abbrev cX2_hangingUnits : ByteArray := prog_10_method_98_code
def yX2_hangingUnits : MethodName := ⟨RX2, "hangingUnits", "()I"⟩
def dkwX2_hangingUnits_1 : List UInt8 := [182, 0, 250, 172]
abbrev dktX2_hangingUnits_1 : List UInt8 := dkwX2_hangingUnits_1 ++ []
def dkwX2_hangingUnits_0 : List UInt8 := [42, 182, 1, 0, 153, 0, 5, 3, 172, 42, 182, 0, 244, 42, 182, 1, 37, 60, 42, 42, 182, 1, 10]
abbrev dktX2_hangingUnits_0 : List UInt8 := dkwX2_hangingUnits_0 ++ dktX2_hangingUnits_1
theorem dksX2_hangingUnits_0 : cX2_hangingUnits.data.toList.drop 0 = dktX2_hangingUnits_0 := by decide +kernel
theorem dksX2_hangingUnits_1 : cX2_hangingUnits.data.toList.drop 23 = dktX2_hangingUnits_1 := dk_seg dksX2_hangingUnits_0 23 rfl rfl
theorem dX2_hangingUnits_0 : decode cX2_hangingUnits 0 = .ok (.aload_n 0, 1) := dk_42 (dk_at dksX2_hangingUnits_0 0 rfl rfl)
theorem dX2_hangingUnits_1 : decode cX2_hangingUnits 1 = .ok (.invokevirtual 256, 3) := dk_182 1 0 (dk_at dksX2_hangingUnits_0 1 rfl rfl)
theorem dX2_hangingUnits_4 : decode cX2_hangingUnits 4 = .ok (.ifCond .eq 5, 3) := dk_153 0 5 (dk_at dksX2_hangingUnits_0 4 rfl rfl)
theorem dX2_hangingUnits_7 : decode cX2_hangingUnits 7 = .ok (.iconst 0, 1) := dk_3 (dk_at dksX2_hangingUnits_0 7 rfl rfl)
theorem dX2_hangingUnits_8 : decode cX2_hangingUnits 8 = .ok (.ireturn, 1) := dk_172 (dk_at dksX2_hangingUnits_0 8 rfl rfl)
theorem dX2_hangingUnits_9 : decode cX2_hangingUnits 9 = .ok (.aload_n 0, 1) := dk_42 (dk_at dksX2_hangingUnits_0 9 rfl rfl)
theorem dX2_hangingUnits_10 : decode cX2_hangingUnits 10 = .ok (.invokevirtual 244, 3) := dk_182 0 244 (dk_at dksX2_hangingUnits_0 10 rfl rfl)
theorem dX2_hangingUnits_13 : decode cX2_hangingUnits 13 = .ok (.aload_n 0, 1) := dk_42 (dk_at dksX2_hangingUnits_0 13 rfl rfl)
theorem dX2_hangingUnits_14 : decode cX2_hangingUnits 14 = .ok (.invokevirtual 293, 3) := dk_182 1 37 (dk_at dksX2_hangingUnits_0 14 rfl rfl)
theorem dX2_hangingUnits_17 : decode cX2_hangingUnits 17 = .ok (.istore_n 1, 1) := dk_60 (dk_at dksX2_hangingUnits_0 17 rfl rfl)
theorem dX2_hangingUnits_18 : decode cX2_hangingUnits 18 = .ok (.aload_n 0, 1) := dk_42 (dk_at dksX2_hangingUnits_0 18 rfl rfl)
theorem dX2_hangingUnits_19 : decode cX2_hangingUnits 19 = .ok (.aload_n 0, 1) := dk_42 (dk_at dksX2_hangingUnits_0 19 rfl rfl)
theorem dX2_hangingUnits_20 : decode cX2_hangingUnits 20 = .ok (.invokevirtual 266, 3) := dk_182 1 10 (dk_at dksX2_hangingUnits_0 20 rfl rfl)
theorem dX2_hangingUnits_23 : decode cX2_hangingUnits 23 = .ok (.invokevirtual 250, 3) := dk_182 0 250 (dk_at dksX2_hangingUnits_1 0 rfl rfl)
theorem dX2_hangingUnits_26 : decode cX2_hangingUnits 26 = .ok (.ireturn, 1) := dk_172 (dk_at dksX2_hangingUnits_1 3 rfl rfl)
abbrev cX2_heightDrawn : ByteArray := prog_10_method_99_code
def yX2_heightDrawn : MethodName := ⟨RX2, "heightDrawn", "(II)I"⟩
def dkwX2_heightDrawn_1 : List UInt8 := [182, 0, 49, 182, 0, 250, 172]
abbrev dktX2_heightDrawn_1 : List UInt8 := dkwX2_heightDrawn_1 ++ []
def dkwX2_heightDrawn_0 : List UInt8 := [42, 27, 28, 182, 1, 33, 153, 0, 5, 3, 172, 42, 182, 0, 244, 42, 28, 182, 0, 196, 62, 42, 42, 27]
abbrev dktX2_heightDrawn_0 : List UInt8 := dkwX2_heightDrawn_0 ++ dktX2_heightDrawn_1
theorem dksX2_heightDrawn_0 : cX2_heightDrawn.data.toList.drop 0 = dktX2_heightDrawn_0 := by decide +kernel
theorem dksX2_heightDrawn_1 : cX2_heightDrawn.data.toList.drop 24 = dktX2_heightDrawn_1 := dk_seg dksX2_heightDrawn_0 24 rfl rfl
theorem dX2_heightDrawn_0 : decode cX2_heightDrawn 0 = .ok (.aload_n 0, 1) := dk_42 (dk_at dksX2_heightDrawn_0 0 rfl rfl)
theorem dX2_heightDrawn_1 : decode cX2_heightDrawn 1 = .ok (.iload_n 1, 1) := dk_27 (dk_at dksX2_heightDrawn_0 1 rfl rfl)
theorem dX2_heightDrawn_2 : decode cX2_heightDrawn 2 = .ok (.iload_n 2, 1) := dk_28 (dk_at dksX2_heightDrawn_0 2 rfl rfl)
theorem dX2_heightDrawn_3 : decode cX2_heightDrawn 3 = .ok (.invokevirtual 289, 3) := dk_182 1 33 (dk_at dksX2_heightDrawn_0 3 rfl rfl)
theorem dX2_heightDrawn_6 : decode cX2_heightDrawn 6 = .ok (.ifCond .eq 5, 3) := dk_153 0 5 (dk_at dksX2_heightDrawn_0 6 rfl rfl)
theorem dX2_heightDrawn_9 : decode cX2_heightDrawn 9 = .ok (.iconst 0, 1) := dk_3 (dk_at dksX2_heightDrawn_0 9 rfl rfl)
theorem dX2_heightDrawn_10 : decode cX2_heightDrawn 10 = .ok (.ireturn, 1) := dk_172 (dk_at dksX2_heightDrawn_0 10 rfl rfl)
theorem dX2_heightDrawn_11 : decode cX2_heightDrawn 11 = .ok (.aload_n 0, 1) := dk_42 (dk_at dksX2_heightDrawn_0 11 rfl rfl)
theorem dX2_heightDrawn_12 : decode cX2_heightDrawn 12 = .ok (.invokevirtual 244, 3) := dk_182 0 244 (dk_at dksX2_heightDrawn_0 12 rfl rfl)
theorem dX2_heightDrawn_15 : decode cX2_heightDrawn 15 = .ok (.aload_n 0, 1) := dk_42 (dk_at dksX2_heightDrawn_0 15 rfl rfl)
theorem dX2_heightDrawn_16 : decode cX2_heightDrawn 16 = .ok (.iload_n 2, 1) := dk_28 (dk_at dksX2_heightDrawn_0 16 rfl rfl)
theorem dX2_heightDrawn_17 : decode cX2_heightDrawn 17 = .ok (.invokevirtual 196, 3) := dk_182 0 196 (dk_at dksX2_heightDrawn_0 17 rfl rfl)
theorem dX2_heightDrawn_20 : decode cX2_heightDrawn 20 = .ok (.istore_n 3, 1) := dk_62 (dk_at dksX2_heightDrawn_0 20 rfl rfl)
theorem dX2_heightDrawn_21 : decode cX2_heightDrawn 21 = .ok (.aload_n 0, 1) := dk_42 (dk_at dksX2_heightDrawn_0 21 rfl rfl)
theorem dX2_heightDrawn_22 : decode cX2_heightDrawn 22 = .ok (.aload_n 0, 1) := dk_42 (dk_at dksX2_heightDrawn_0 22 rfl rfl)
theorem dX2_heightDrawn_23 : decode cX2_heightDrawn 23 = .ok (.iload_n 1, 1) := dk_27 (dk_at dksX2_heightDrawn_0 23 rfl rfl)
theorem dX2_heightDrawn_24 : decode cX2_heightDrawn 24 = .ok (.invokevirtual 49, 3) := dk_182 0 49 (dk_at dksX2_heightDrawn_1 0 rfl rfl)
theorem dX2_heightDrawn_27 : decode cX2_heightDrawn 27 = .ok (.invokevirtual 250, 3) := dk_182 0 250 (dk_at dksX2_heightDrawn_1 3 rfl rfl)
theorem dX2_heightDrawn_30 : decode cX2_heightDrawn 30 = .ok (.ireturn, 1) := dk_172 (dk_at dksX2_heightDrawn_1 6 rfl rfl)
abbrev cX2_levelIfFilled : ByteArray := prog_10_method_100_code
def yX2_levelIfFilled : MethodName := ⟨RX2, "levelIfFilled", "(II)I"⟩
def dkwX2_levelIfFilled_1 : List UInt8 := [182, 0, 227, 42, 42, 180, 0, 7, 16, 10, 46, 182, 0, 250, 172]
abbrev dktX2_levelIfFilled_1 : List UInt8 := dkwX2_levelIfFilled_1 ++ []
def dkwX2_levelIfFilled_0 : List UInt8 := [42, 27, 28, 182, 1, 33, 153, 0, 5, 3, 172, 42, 182, 0, 244, 42, 27, 28, 182, 0, 193, 62, 42]
abbrev dktX2_levelIfFilled_0 : List UInt8 := dkwX2_levelIfFilled_0 ++ dktX2_levelIfFilled_1
theorem dksX2_levelIfFilled_0 : cX2_levelIfFilled.data.toList.drop 0 = dktX2_levelIfFilled_0 := by decide +kernel
theorem dksX2_levelIfFilled_1 : cX2_levelIfFilled.data.toList.drop 23 = dktX2_levelIfFilled_1 := dk_seg dksX2_levelIfFilled_0 23 rfl rfl
theorem dX2_levelIfFilled_0 : decode cX2_levelIfFilled 0 = .ok (.aload_n 0, 1) := dk_42 (dk_at dksX2_levelIfFilled_0 0 rfl rfl)
theorem dX2_levelIfFilled_1 : decode cX2_levelIfFilled 1 = .ok (.iload_n 1, 1) := dk_27 (dk_at dksX2_levelIfFilled_0 1 rfl rfl)
theorem dX2_levelIfFilled_2 : decode cX2_levelIfFilled 2 = .ok (.iload_n 2, 1) := dk_28 (dk_at dksX2_levelIfFilled_0 2 rfl rfl)
theorem dX2_levelIfFilled_3 : decode cX2_levelIfFilled 3 = .ok (.invokevirtual 289, 3) := dk_182 1 33 (dk_at dksX2_levelIfFilled_0 3 rfl rfl)
theorem dX2_levelIfFilled_6 : decode cX2_levelIfFilled 6 = .ok (.ifCond .eq 5, 3) := dk_153 0 5 (dk_at dksX2_levelIfFilled_0 6 rfl rfl)
theorem dX2_levelIfFilled_9 : decode cX2_levelIfFilled 9 = .ok (.iconst 0, 1) := dk_3 (dk_at dksX2_levelIfFilled_0 9 rfl rfl)
theorem dX2_levelIfFilled_10 : decode cX2_levelIfFilled 10 = .ok (.ireturn, 1) := dk_172 (dk_at dksX2_levelIfFilled_0 10 rfl rfl)
theorem dX2_levelIfFilled_11 : decode cX2_levelIfFilled 11 = .ok (.aload_n 0, 1) := dk_42 (dk_at dksX2_levelIfFilled_0 11 rfl rfl)
theorem dX2_levelIfFilled_12 : decode cX2_levelIfFilled 12 = .ok (.invokevirtual 244, 3) := dk_182 0 244 (dk_at dksX2_levelIfFilled_0 12 rfl rfl)
theorem dX2_levelIfFilled_15 : decode cX2_levelIfFilled 15 = .ok (.aload_n 0, 1) := dk_42 (dk_at dksX2_levelIfFilled_0 15 rfl rfl)
theorem dX2_levelIfFilled_16 : decode cX2_levelIfFilled 16 = .ok (.iload_n 1, 1) := dk_27 (dk_at dksX2_levelIfFilled_0 16 rfl rfl)
theorem dX2_levelIfFilled_17 : decode cX2_levelIfFilled 17 = .ok (.iload_n 2, 1) := dk_28 (dk_at dksX2_levelIfFilled_0 17 rfl rfl)
theorem dX2_levelIfFilled_18 : decode cX2_levelIfFilled 18 = .ok (.invokevirtual 193, 3) := dk_182 0 193 (dk_at dksX2_levelIfFilled_0 18 rfl rfl)
theorem dX2_levelIfFilled_21 : decode cX2_levelIfFilled 21 = .ok (.istore_n 3, 1) := dk_62 (dk_at dksX2_levelIfFilled_0 21 rfl rfl)
theorem dX2_levelIfFilled_22 : decode cX2_levelIfFilled 22 = .ok (.aload_n 0, 1) := dk_42 (dk_at dksX2_levelIfFilled_0 22 rfl rfl)
theorem dX2_levelIfFilled_23 : decode cX2_levelIfFilled 23 = .ok (.invokevirtual 227, 3) := dk_182 0 227 (dk_at dksX2_levelIfFilled_1 0 rfl rfl)
theorem dX2_levelIfFilled_26 : decode cX2_levelIfFilled 26 = .ok (.aload_n 0, 1) := dk_42 (dk_at dksX2_levelIfFilled_1 3 rfl rfl)
theorem dX2_levelIfFilled_27 : decode cX2_levelIfFilled 27 = .ok (.aload_n 0, 1) := dk_42 (dk_at dksX2_levelIfFilled_1 4 rfl rfl)
theorem dX2_levelIfFilled_28 : decode cX2_levelIfFilled 28 = .ok (.getfield 7, 3) := dk_180 0 7 (dk_at dksX2_levelIfFilled_1 5 rfl rfl)
theorem dX2_levelIfFilled_31 : decode cX2_levelIfFilled 31 = .ok (.bipush 10, 2) := dk_16 10 (dk_at dksX2_levelIfFilled_1 8 rfl rfl)
theorem dX2_levelIfFilled_33 : decode cX2_levelIfFilled 33 = .ok (.iaload, 1) := dk_46 (dk_at dksX2_levelIfFilled_1 10 rfl rfl)
theorem dX2_levelIfFilled_34 : decode cX2_levelIfFilled 34 = .ok (.invokevirtual 250, 3) := dk_182 0 250 (dk_at dksX2_levelIfFilled_1 11 rfl rfl)
theorem dX2_levelIfFilled_37 : decode cX2_levelIfFilled 37 = .ok (.ireturn, 1) := dk_172 (dk_at dksX2_levelIfFilled_1 14 rfl rfl)
abbrev cX2_learntFalse : ByteArray := prog_10_method_103_code
def yX2_learntFalse : MethodName := ⟨RX2, "learntFalse", "(I)I"⟩
def dkwX2_learntFalse_1 : List UInt8 := [42, 42, 27, 182, 0, 232, 182, 0, 250, 172]
abbrev dktX2_learntFalse_1 : List UInt8 := dkwX2_learntFalse_1 ++ []
def dkwX2_learntFalse_0 : List UInt8 := [42, 27, 182, 1, 43, 153, 0, 5, 3, 172, 42, 27, 182, 1, 46, 153, 0, 5, 2, 172, 42, 182, 0, 244]
abbrev dktX2_learntFalse_0 : List UInt8 := dkwX2_learntFalse_0 ++ dktX2_learntFalse_1
theorem dksX2_learntFalse_0 : cX2_learntFalse.data.toList.drop 0 = dktX2_learntFalse_0 := by decide +kernel
theorem dksX2_learntFalse_1 : cX2_learntFalse.data.toList.drop 24 = dktX2_learntFalse_1 := dk_seg dksX2_learntFalse_0 24 rfl rfl
theorem dX2_learntFalse_0 : decode cX2_learntFalse 0 = .ok (.aload_n 0, 1) := dk_42 (dk_at dksX2_learntFalse_0 0 rfl rfl)
theorem dX2_learntFalse_1 : decode cX2_learntFalse 1 = .ok (.iload_n 1, 1) := dk_27 (dk_at dksX2_learntFalse_0 1 rfl rfl)
theorem dX2_learntFalse_2 : decode cX2_learntFalse 2 = .ok (.invokevirtual 299, 3) := dk_182 1 43 (dk_at dksX2_learntFalse_0 2 rfl rfl)
theorem dX2_learntFalse_5 : decode cX2_learntFalse 5 = .ok (.ifCond .eq 5, 3) := dk_153 0 5 (dk_at dksX2_learntFalse_0 5 rfl rfl)
theorem dX2_learntFalse_8 : decode cX2_learntFalse 8 = .ok (.iconst 0, 1) := dk_3 (dk_at dksX2_learntFalse_0 8 rfl rfl)
theorem dX2_learntFalse_9 : decode cX2_learntFalse 9 = .ok (.ireturn, 1) := dk_172 (dk_at dksX2_learntFalse_0 9 rfl rfl)
theorem dX2_learntFalse_10 : decode cX2_learntFalse 10 = .ok (.aload_n 0, 1) := dk_42 (dk_at dksX2_learntFalse_0 10 rfl rfl)
theorem dX2_learntFalse_11 : decode cX2_learntFalse 11 = .ok (.iload_n 1, 1) := dk_27 (dk_at dksX2_learntFalse_0 11 rfl rfl)
theorem dX2_learntFalse_12 : decode cX2_learntFalse 12 = .ok (.invokevirtual 302, 3) := dk_182 1 46 (dk_at dksX2_learntFalse_0 12 rfl rfl)
theorem dX2_learntFalse_15 : decode cX2_learntFalse 15 = .ok (.ifCond .eq 5, 3) := dk_153 0 5 (dk_at dksX2_learntFalse_0 15 rfl rfl)
theorem dX2_learntFalse_18 : decode cX2_learntFalse 18 = .ok (.iconst (-1), 1) := dk_2 (dk_at dksX2_learntFalse_0 18 rfl rfl)
theorem dX2_learntFalse_19 : decode cX2_learntFalse 19 = .ok (.ireturn, 1) := dk_172 (dk_at dksX2_learntFalse_0 19 rfl rfl)
theorem dX2_learntFalse_20 : decode cX2_learntFalse 20 = .ok (.aload_n 0, 1) := dk_42 (dk_at dksX2_learntFalse_0 20 rfl rfl)
theorem dX2_learntFalse_21 : decode cX2_learntFalse 21 = .ok (.invokevirtual 244, 3) := dk_182 0 244 (dk_at dksX2_learntFalse_0 21 rfl rfl)
theorem dX2_learntFalse_24 : decode cX2_learntFalse 24 = .ok (.aload_n 0, 1) := dk_42 (dk_at dksX2_learntFalse_1 0 rfl rfl)
theorem dX2_learntFalse_25 : decode cX2_learntFalse 25 = .ok (.aload_n 0, 1) := dk_42 (dk_at dksX2_learntFalse_1 1 rfl rfl)
theorem dX2_learntFalse_26 : decode cX2_learntFalse 26 = .ok (.iload_n 1, 1) := dk_27 (dk_at dksX2_learntFalse_1 2 rfl rfl)
theorem dX2_learntFalse_27 : decode cX2_learntFalse 27 = .ok (.invokevirtual 232, 3) := dk_182 0 232 (dk_at dksX2_learntFalse_1 3 rfl rfl)
theorem dX2_learntFalse_30 : decode cX2_learntFalse 30 = .ok (.invokevirtual 250, 3) := dk_182 0 250 (dk_at dksX2_learntFalse_1 6 rfl rfl)
theorem dX2_learntFalse_33 : decode cX2_learntFalse 33 = .ok (.ireturn, 1) := dk_172 (dk_at dksX2_learntFalse_1 9 rfl rfl)
abbrev cX2_noWay : ByteArray := prog_10_method_101_code
def yX2_noWay : MethodName := ⟨RX2, "noWay", "(I)Z"⟩
def dkwX2_noWay_1 : List UInt8 := [4, 167, 0, 4, 3, 5, 182, 0, 37, 153, 0, 7, 4, 167, 0, 4, 3, 172]
abbrev dktX2_noWay_1 : List UInt8 := dkwX2_noWay_1 ++ []
def dkwX2_noWay_0 : List UInt8 := [42, 182, 1, 0, 154, 0, 32, 42, 27, 133, 9, 42, 182, 0, 60, 4, 96, 133, 184, 0, 170, 154, 0, 7]
abbrev dktX2_noWay_0 : List UInt8 := dkwX2_noWay_0 ++ dktX2_noWay_1
theorem dksX2_noWay_0 : cX2_noWay.data.toList.drop 0 = dktX2_noWay_0 := by decide +kernel
theorem dksX2_noWay_1 : cX2_noWay.data.toList.drop 24 = dktX2_noWay_1 := dk_seg dksX2_noWay_0 24 rfl rfl
theorem dX2_noWay_0 : decode cX2_noWay 0 = .ok (.aload_n 0, 1) := dk_42 (dk_at dksX2_noWay_0 0 rfl rfl)
theorem dX2_noWay_1 : decode cX2_noWay 1 = .ok (.invokevirtual 256, 3) := dk_182 1 0 (dk_at dksX2_noWay_0 1 rfl rfl)
theorem dX2_noWay_4 : decode cX2_noWay 4 = .ok (.ifCond .ne 32, 3) := dk_154 0 32 (dk_at dksX2_noWay_0 4 rfl rfl)
theorem dX2_noWay_7 : decode cX2_noWay 7 = .ok (.aload_n 0, 1) := dk_42 (dk_at dksX2_noWay_0 7 rfl rfl)
theorem dX2_noWay_8 : decode cX2_noWay 8 = .ok (.iload_n 1, 1) := dk_27 (dk_at dksX2_noWay_0 8 rfl rfl)
theorem dX2_noWay_9 : decode cX2_noWay 9 = .ok (.i2l, 1) := dk_133 (dk_at dksX2_noWay_0 9 rfl rfl)
theorem dX2_noWay_10 : decode cX2_noWay 10 = .ok (.lconst 0, 1) := dk_9 (dk_at dksX2_noWay_0 10 rfl rfl)
theorem dX2_noWay_11 : decode cX2_noWay 11 = .ok (.aload_n 0, 1) := dk_42 (dk_at dksX2_noWay_0 11 rfl rfl)
theorem dX2_noWay_12 : decode cX2_noWay 12 = .ok (.invokevirtual 60, 3) := dk_182 0 60 (dk_at dksX2_noWay_0 12 rfl rfl)
theorem dX2_noWay_15 : decode cX2_noWay 15 = .ok (.iconst 1, 1) := dk_4 (dk_at dksX2_noWay_0 15 rfl rfl)
theorem dX2_noWay_16 : decode cX2_noWay 16 = .ok (.iadd, 1) := dk_96 (dk_at dksX2_noWay_0 16 rfl rfl)
theorem dX2_noWay_17 : decode cX2_noWay 17 = .ok (.i2l, 1) := dk_133 (dk_at dksX2_noWay_0 17 rfl rfl)
theorem dX2_noWay_18 : decode cX2_noWay 18 = .ok (.invokestatic 170, 3) := dk_184 0 170 (dk_at dksX2_noWay_0 18 rfl rfl)
theorem dX2_noWay_21 : decode cX2_noWay 21 = .ok (.ifCond .ne 7, 3) := dk_154 0 7 (dk_at dksX2_noWay_0 21 rfl rfl)
theorem dX2_noWay_24 : decode cX2_noWay 24 = .ok (.iconst 1, 1) := dk_4 (dk_at dksX2_noWay_1 0 rfl rfl)
theorem dX2_noWay_25 : decode cX2_noWay 25 = .ok (.goto 4, 3) := dk_167 0 4 (dk_at dksX2_noWay_1 1 rfl rfl)
theorem dX2_noWay_28 : decode cX2_noWay 28 = .ok (.iconst 0, 1) := dk_3 (dk_at dksX2_noWay_1 4 rfl rfl)
theorem dX2_noWay_29 : decode cX2_noWay 29 = .ok (.iconst 2, 1) := dk_5 (dk_at dksX2_noWay_1 5 rfl rfl)
theorem dX2_noWay_30 : decode cX2_noWay 30 = .ok (.invokevirtual 37, 3) := dk_182 0 37 (dk_at dksX2_noWay_1 6 rfl rfl)
theorem dX2_noWay_33 : decode cX2_noWay 33 = .ok (.ifCond .eq 7, 3) := dk_153 0 7 (dk_at dksX2_noWay_1 9 rfl rfl)
theorem dX2_noWay_36 : decode cX2_noWay 36 = .ok (.iconst 1, 1) := dk_4 (dk_at dksX2_noWay_1 12 rfl rfl)
theorem dX2_noWay_37 : decode cX2_noWay 37 = .ok (.goto 4, 3) := dk_167 0 4 (dk_at dksX2_noWay_1 13 rfl rfl)
theorem dX2_noWay_40 : decode cX2_noWay 40 = .ok (.iconst 0, 1) := dk_3 (dk_at dksX2_noWay_1 16 rfl rfl)
theorem dX2_noWay_41 : decode cX2_noWay 41 = .ok (.ireturn, 1) := dk_172 (dk_at dksX2_noWay_1 17 rfl rfl)
abbrev cX2_learnsHeap : ByteArray := prog_10_method_102_code
def yX2_learnsHeap : MethodName := ⟨RX2, "learnsHeap", "(I)Z"⟩
def dkwX2_learnsHeap_1 : List UInt8 := [182, 0, 83, 96, 46, 164, 0, 7, 4, 167, 0, 4, 3, 172]
abbrev dktX2_learnsHeap_1 : List UInt8 := dkwX2_learnsHeap_1 ++ []
def dkwX2_learnsHeap_0 : List UInt8 := [42, 182, 0, 83, 27, 162, 0, 30, 42, 42, 182, 0, 83, 182, 0, 101, 42, 180, 0, 7, 16, 52, 42]
abbrev dktX2_learnsHeap_0 : List UInt8 := dkwX2_learnsHeap_0 ++ dktX2_learnsHeap_1
theorem dksX2_learnsHeap_0 : cX2_learnsHeap.data.toList.drop 0 = dktX2_learnsHeap_0 := by decide +kernel
theorem dksX2_learnsHeap_1 : cX2_learnsHeap.data.toList.drop 23 = dktX2_learnsHeap_1 := dk_seg dksX2_learnsHeap_0 23 rfl rfl
theorem dX2_learnsHeap_0 : decode cX2_learnsHeap 0 = .ok (.aload_n 0, 1) := dk_42 (dk_at dksX2_learnsHeap_0 0 rfl rfl)
theorem dX2_learnsHeap_1 : decode cX2_learnsHeap 1 = .ok (.invokevirtual 83, 3) := dk_182 0 83 (dk_at dksX2_learnsHeap_0 1 rfl rfl)
theorem dX2_learnsHeap_4 : decode cX2_learnsHeap 4 = .ok (.iload_n 1, 1) := dk_27 (dk_at dksX2_learnsHeap_0 4 rfl rfl)
theorem dX2_learnsHeap_5 : decode cX2_learnsHeap 5 = .ok (.if_icmp .ge 30, 3) := dk_162 0 30 (dk_at dksX2_learnsHeap_0 5 rfl rfl)
theorem dX2_learnsHeap_8 : decode cX2_learnsHeap 8 = .ok (.aload_n 0, 1) := dk_42 (dk_at dksX2_learnsHeap_0 8 rfl rfl)
theorem dX2_learnsHeap_9 : decode cX2_learnsHeap 9 = .ok (.aload_n 0, 1) := dk_42 (dk_at dksX2_learnsHeap_0 9 rfl rfl)
theorem dX2_learnsHeap_10 : decode cX2_learnsHeap 10 = .ok (.invokevirtual 83, 3) := dk_182 0 83 (dk_at dksX2_learnsHeap_0 10 rfl rfl)
theorem dX2_learnsHeap_13 : decode cX2_learnsHeap 13 = .ok (.invokevirtual 101, 3) := dk_182 0 101 (dk_at dksX2_learnsHeap_0 13 rfl rfl)
theorem dX2_learnsHeap_16 : decode cX2_learnsHeap 16 = .ok (.aload_n 0, 1) := dk_42 (dk_at dksX2_learnsHeap_0 16 rfl rfl)
theorem dX2_learnsHeap_17 : decode cX2_learnsHeap 17 = .ok (.getfield 7, 3) := dk_180 0 7 (dk_at dksX2_learnsHeap_0 17 rfl rfl)
theorem dX2_learnsHeap_20 : decode cX2_learnsHeap 20 = .ok (.bipush 52, 2) := dk_16 52 (dk_at dksX2_learnsHeap_0 20 rfl rfl)
theorem dX2_learnsHeap_22 : decode cX2_learnsHeap 22 = .ok (.aload_n 0, 1) := dk_42 (dk_at dksX2_learnsHeap_0 22 rfl rfl)
theorem dX2_learnsHeap_23 : decode cX2_learnsHeap 23 = .ok (.invokevirtual 83, 3) := dk_182 0 83 (dk_at dksX2_learnsHeap_1 0 rfl rfl)
theorem dX2_learnsHeap_26 : decode cX2_learnsHeap 26 = .ok (.iadd, 1) := dk_96 (dk_at dksX2_learnsHeap_1 3 rfl rfl)
theorem dX2_learnsHeap_27 : decode cX2_learnsHeap 27 = .ok (.iaload, 1) := dk_46 (dk_at dksX2_learnsHeap_1 4 rfl rfl)
theorem dX2_learnsHeap_28 : decode cX2_learnsHeap 28 = .ok (.if_icmp .le 7, 3) := dk_164 0 7 (dk_at dksX2_learnsHeap_1 5 rfl rfl)
theorem dX2_learnsHeap_31 : decode cX2_learnsHeap 31 = .ok (.iconst 1, 1) := dk_4 (dk_at dksX2_learnsHeap_1 8 rfl rfl)
theorem dX2_learnsHeap_32 : decode cX2_learnsHeap 32 = .ok (.goto 4, 3) := dk_167 0 4 (dk_at dksX2_learnsHeap_1 9 rfl rfl)
theorem dX2_learnsHeap_35 : decode cX2_learnsHeap 35 = .ok (.iconst 0, 1) := dk_3 (dk_at dksX2_learnsHeap_1 12 rfl rfl)
theorem dX2_learnsHeap_36 : decode cX2_learnsHeap 36 = .ok (.ireturn, 1) := dk_172 (dk_at dksX2_learnsHeap_1 13 rfl rfl)
abbrev cX2_bestLearn : ByteArray := prog_10_method_104_code
def yX2_bestLearn : MethodName := ⟨RX2, "bestLearn", "()I"⟩
def dkwX2_bestLearn_1 : List UInt8 := [132, 1, 255, 167, 255, 245, 27, 172]
abbrev dktX2_bestLearn_1 : List UInt8 := dkwX2_bestLearn_1 ++ []
def dkwX2_bestLearn_0 : List UInt8 := [42, 182, 1, 0, 153, 0, 5, 3, 172, 42, 182, 0, 60, 4, 96, 60, 42, 27, 182, 1, 46, 153, 0, 9]
abbrev dktX2_bestLearn_0 : List UInt8 := dkwX2_bestLearn_0 ++ dktX2_bestLearn_1
theorem dksX2_bestLearn_0 : cX2_bestLearn.data.toList.drop 0 = dktX2_bestLearn_0 := by decide +kernel
theorem dksX2_bestLearn_1 : cX2_bestLearn.data.toList.drop 24 = dktX2_bestLearn_1 := dk_seg dksX2_bestLearn_0 24 rfl rfl
theorem dX2_bestLearn_0 : decode cX2_bestLearn 0 = .ok (.aload_n 0, 1) := dk_42 (dk_at dksX2_bestLearn_0 0 rfl rfl)
theorem dX2_bestLearn_1 : decode cX2_bestLearn 1 = .ok (.invokevirtual 256, 3) := dk_182 1 0 (dk_at dksX2_bestLearn_0 1 rfl rfl)
theorem dX2_bestLearn_4 : decode cX2_bestLearn 4 = .ok (.ifCond .eq 5, 3) := dk_153 0 5 (dk_at dksX2_bestLearn_0 4 rfl rfl)
theorem dX2_bestLearn_7 : decode cX2_bestLearn 7 = .ok (.iconst 0, 1) := dk_3 (dk_at dksX2_bestLearn_0 7 rfl rfl)
theorem dX2_bestLearn_8 : decode cX2_bestLearn 8 = .ok (.ireturn, 1) := dk_172 (dk_at dksX2_bestLearn_0 8 rfl rfl)
theorem dX2_bestLearn_9 : decode cX2_bestLearn 9 = .ok (.aload_n 0, 1) := dk_42 (dk_at dksX2_bestLearn_0 9 rfl rfl)
theorem dX2_bestLearn_10 : decode cX2_bestLearn 10 = .ok (.invokevirtual 60, 3) := dk_182 0 60 (dk_at dksX2_bestLearn_0 10 rfl rfl)
theorem dX2_bestLearn_13 : decode cX2_bestLearn 13 = .ok (.iconst 1, 1) := dk_4 (dk_at dksX2_bestLearn_0 13 rfl rfl)
theorem dX2_bestLearn_14 : decode cX2_bestLearn 14 = .ok (.iadd, 1) := dk_96 (dk_at dksX2_bestLearn_0 14 rfl rfl)
theorem dX2_bestLearn_15 : decode cX2_bestLearn 15 = .ok (.istore_n 1, 1) := dk_60 (dk_at dksX2_bestLearn_0 15 rfl rfl)
theorem dX2_bestLearn_16 : decode cX2_bestLearn 16 = .ok (.aload_n 0, 1) := dk_42 (dk_at dksX2_bestLearn_0 16 rfl rfl)
theorem dX2_bestLearn_17 : decode cX2_bestLearn 17 = .ok (.iload_n 1, 1) := dk_27 (dk_at dksX2_bestLearn_0 17 rfl rfl)
theorem dX2_bestLearn_18 : decode cX2_bestLearn 18 = .ok (.invokevirtual 302, 3) := dk_182 1 46 (dk_at dksX2_bestLearn_0 18 rfl rfl)
theorem dX2_bestLearn_21 : decode cX2_bestLearn 21 = .ok (.ifCond .eq 9, 3) := dk_153 0 9 (dk_at dksX2_bestLearn_0 21 rfl rfl)
theorem dX2_bestLearn_24 : decode cX2_bestLearn 24 = .ok (.iinc 1 (-1), 3) := dk_132 1 255 (dk_at dksX2_bestLearn_1 0 rfl rfl)
theorem dX2_bestLearn_27 : decode cX2_bestLearn 27 = .ok (.goto (-11), 3) := dk_167 255 245 (dk_at dksX2_bestLearn_1 3 rfl rfl)
theorem dX2_bestLearn_30 : decode cX2_bestLearn 30 = .ok (.iload_n 1, 1) := dk_27 (dk_at dksX2_bestLearn_1 6 rfl rfl)
theorem dX2_bestLearn_31 : decode cX2_bestLearn 31 = .ok (.ireturn, 1) := dk_172 (dk_at dksX2_bestLearn_1 7 rfl rfl)
abbrev cX2_share : ByteArray := prog_10_method_105_code
def yX2_share : MethodName := ⟨RX2, "share", "()F"⟩
def dkwX2_share_1 : List UInt8 := [104, 134, 110, 174]
abbrev dktX2_share_1 : List UInt8 := dkwX2_share_1 ++ []
def dkwX2_share_0 : List UInt8 := [42, 182, 1, 0, 153, 0, 7, 11, 167, 0, 19, 42, 182, 1, 10, 134, 42, 182, 0, 45, 42, 182, 0, 60]
abbrev dktX2_share_0 : List UInt8 := dkwX2_share_0 ++ dktX2_share_1
theorem dksX2_share_0 : cX2_share.data.toList.drop 0 = dktX2_share_0 := by decide +kernel
theorem dksX2_share_1 : cX2_share.data.toList.drop 24 = dktX2_share_1 := dk_seg dksX2_share_0 24 rfl rfl
theorem dX2_share_0 : decode cX2_share 0 = .ok (.aload_n 0, 1) := dk_42 (dk_at dksX2_share_0 0 rfl rfl)
theorem dX2_share_1 : decode cX2_share 1 = .ok (.invokevirtual 256, 3) := dk_182 1 0 (dk_at dksX2_share_0 1 rfl rfl)
theorem dX2_share_4 : decode cX2_share 4 = .ok (.ifCond .eq 7, 3) := dk_153 0 7 (dk_at dksX2_share_0 4 rfl rfl)
theorem dX2_share_7 : decode cX2_share 7 = .ok (.fconst 0, 1) := dk_11 (dk_at dksX2_share_0 7 rfl rfl)
theorem dX2_share_8 : decode cX2_share 8 = .ok (.goto 19, 3) := dk_167 0 19 (dk_at dksX2_share_0 8 rfl rfl)
theorem dX2_share_11 : decode cX2_share 11 = .ok (.aload_n 0, 1) := dk_42 (dk_at dksX2_share_0 11 rfl rfl)
theorem dX2_share_12 : decode cX2_share 12 = .ok (.invokevirtual 266, 3) := dk_182 1 10 (dk_at dksX2_share_0 12 rfl rfl)
theorem dX2_share_15 : decode cX2_share 15 = .ok (.i2f, 1) := dk_134 (dk_at dksX2_share_0 15 rfl rfl)
theorem dX2_share_16 : decode cX2_share 16 = .ok (.aload_n 0, 1) := dk_42 (dk_at dksX2_share_0 16 rfl rfl)
theorem dX2_share_17 : decode cX2_share 17 = .ok (.invokevirtual 45, 3) := dk_182 0 45 (dk_at dksX2_share_0 17 rfl rfl)
theorem dX2_share_20 : decode cX2_share 20 = .ok (.aload_n 0, 1) := dk_42 (dk_at dksX2_share_0 20 rfl rfl)
theorem dX2_share_21 : decode cX2_share 21 = .ok (.invokevirtual 60, 3) := dk_182 0 60 (dk_at dksX2_share_0 21 rfl rfl)
theorem dX2_share_24 : decode cX2_share 24 = .ok (.imul, 1) := dk_104 (dk_at dksX2_share_1 0 rfl rfl)
theorem dX2_share_25 : decode cX2_share 25 = .ok (.i2f, 1) := dk_134 (dk_at dksX2_share_1 1 rfl rfl)
theorem dX2_share_26 : decode cX2_share 26 = .ok (.fdiv, 1) := dk_110 (dk_at dksX2_share_1 2 rfl rfl)
theorem dX2_share_27 : decode cX2_share 27 = .ok (.freturn, 1) := dk_174 (dk_at dksX2_share_1 3 rfl rfl)
abbrev cX2_meanHeight : ByteArray := prog_10_method_106_code
def yX2_meanHeight : MethodName := ⟨RX2, "meanHeight", "()D"⟩
def dkwX2_meanHeight_0 : List UInt8 := [42, 182, 1, 0, 153, 0, 7, 14, 167, 0, 14, 42, 182, 1, 10, 135, 42, 182, 0, 45, 135, 111, 175]
abbrev dktX2_meanHeight_0 : List UInt8 := dkwX2_meanHeight_0 ++ []
theorem dksX2_meanHeight_0 : cX2_meanHeight.data.toList.drop 0 = dktX2_meanHeight_0 := by decide +kernel
theorem dX2_meanHeight_0 : decode cX2_meanHeight 0 = .ok (.aload_n 0, 1) := dk_42 (dk_at dksX2_meanHeight_0 0 rfl rfl)
theorem dX2_meanHeight_1 : decode cX2_meanHeight 1 = .ok (.invokevirtual 256, 3) := dk_182 1 0 (dk_at dksX2_meanHeight_0 1 rfl rfl)
theorem dX2_meanHeight_4 : decode cX2_meanHeight 4 = .ok (.ifCond .eq 7, 3) := dk_153 0 7 (dk_at dksX2_meanHeight_0 4 rfl rfl)
theorem dX2_meanHeight_7 : decode cX2_meanHeight 7 = .ok (.dconst 0, 1) := dk_14 (dk_at dksX2_meanHeight_0 7 rfl rfl)
theorem dX2_meanHeight_8 : decode cX2_meanHeight 8 = .ok (.goto 14, 3) := dk_167 0 14 (dk_at dksX2_meanHeight_0 8 rfl rfl)
theorem dX2_meanHeight_11 : decode cX2_meanHeight 11 = .ok (.aload_n 0, 1) := dk_42 (dk_at dksX2_meanHeight_0 11 rfl rfl)
theorem dX2_meanHeight_12 : decode cX2_meanHeight 12 = .ok (.invokevirtual 266, 3) := dk_182 1 10 (dk_at dksX2_meanHeight_0 12 rfl rfl)
theorem dX2_meanHeight_15 : decode cX2_meanHeight 15 = .ok (.i2d, 1) := dk_135 (dk_at dksX2_meanHeight_0 15 rfl rfl)
theorem dX2_meanHeight_16 : decode cX2_meanHeight 16 = .ok (.aload_n 0, 1) := dk_42 (dk_at dksX2_meanHeight_0 16 rfl rfl)
theorem dX2_meanHeight_17 : decode cX2_meanHeight 17 = .ok (.invokevirtual 45, 3) := dk_182 0 45 (dk_at dksX2_meanHeight_0 17 rfl rfl)
theorem dX2_meanHeight_20 : decode cX2_meanHeight 20 = .ok (.i2d, 1) := dk_135 (dk_at dksX2_meanHeight_0 20 rfl rfl)
theorem dX2_meanHeight_21 : decode cX2_meanHeight 21 = .ok (.ddiv, 1) := dk_111 (dk_at dksX2_meanHeight_0 21 rfl rfl)
theorem dX2_meanHeight_22 : decode cX2_meanHeight 22 = .ok (.dreturn, 1) := dk_175 (dk_at dksX2_meanHeight_0 22 rfl rfl)
abbrev cX2_writeSilo : ByteArray := prog_10_method_109_code
def yX2_writeSilo : MethodName := ⟨RX2, "writeSilo", "()I"⟩
def dkwX2_writeSilo_3 : List UInt8 := [16, 120, 182, 1, 52, 132, 1, 1, 167, 255, 194, 42, 180, 1, 49, 172]
abbrev dktX2_writeSilo_3 : List UInt8 := dkwX2_writeSilo_3 ++ []
def dkwX2_writeSilo_2 : List UInt8 := [16, 31, 27, 96, 46, 4, 160, 0, 22, 42, 42, 27, 182, 1, 5, 153, 0, 8, 16, 33, 167, 0, 5]
abbrev dktX2_writeSilo_2 : List UInt8 := dkwX2_writeSilo_2 ++ dktX2_writeSilo_3
def dkwX2_writeSilo_1 : List UInt8 := [27, 158, 0, 9, 42, 16, 32, 182, 1, 52, 42, 42, 27, 182, 0, 49, 182, 1, 55, 42, 180, 0, 7]
abbrev dktX2_writeSilo_1 : List UInt8 := dkwX2_writeSilo_1 ++ dktX2_writeSilo_2
def dkwX2_writeSilo_0 : List UInt8 := [42, 182, 1, 0, 153, 0, 5, 3, 172, 42, 3, 181, 1, 49, 3, 60, 27, 42, 182, 0, 45, 162, 0, 60]
abbrev dktX2_writeSilo_0 : List UInt8 := dkwX2_writeSilo_0 ++ dktX2_writeSilo_1
theorem dksX2_writeSilo_0 : cX2_writeSilo.data.toList.drop 0 = dktX2_writeSilo_0 := by decide +kernel
theorem dksX2_writeSilo_1 : cX2_writeSilo.data.toList.drop 24 = dktX2_writeSilo_1 := dk_seg dksX2_writeSilo_0 24 rfl rfl
theorem dksX2_writeSilo_2 : cX2_writeSilo.data.toList.drop 47 = dktX2_writeSilo_2 := dk_seg dksX2_writeSilo_1 23 rfl rfl
theorem dksX2_writeSilo_3 : cX2_writeSilo.data.toList.drop 70 = dktX2_writeSilo_3 := dk_seg dksX2_writeSilo_2 23 rfl rfl
theorem dX2_writeSilo_0 : decode cX2_writeSilo 0 = .ok (.aload_n 0, 1) := dk_42 (dk_at dksX2_writeSilo_0 0 rfl rfl)
theorem dX2_writeSilo_1 : decode cX2_writeSilo 1 = .ok (.invokevirtual 256, 3) := dk_182 1 0 (dk_at dksX2_writeSilo_0 1 rfl rfl)
theorem dX2_writeSilo_4 : decode cX2_writeSilo 4 = .ok (.ifCond .eq 5, 3) := dk_153 0 5 (dk_at dksX2_writeSilo_0 4 rfl rfl)
theorem dX2_writeSilo_7 : decode cX2_writeSilo 7 = .ok (.iconst 0, 1) := dk_3 (dk_at dksX2_writeSilo_0 7 rfl rfl)
theorem dX2_writeSilo_8 : decode cX2_writeSilo 8 = .ok (.ireturn, 1) := dk_172 (dk_at dksX2_writeSilo_0 8 rfl rfl)
theorem dX2_writeSilo_9 : decode cX2_writeSilo 9 = .ok (.aload_n 0, 1) := dk_42 (dk_at dksX2_writeSilo_0 9 rfl rfl)
theorem dX2_writeSilo_10 : decode cX2_writeSilo 10 = .ok (.iconst 0, 1) := dk_3 (dk_at dksX2_writeSilo_0 10 rfl rfl)
theorem dX2_writeSilo_11 : decode cX2_writeSilo 11 = .ok (.putfield 305, 3) := dk_181 1 49 (dk_at dksX2_writeSilo_0 11 rfl rfl)
theorem dX2_writeSilo_14 : decode cX2_writeSilo 14 = .ok (.iconst 0, 1) := dk_3 (dk_at dksX2_writeSilo_0 14 rfl rfl)
theorem dX2_writeSilo_15 : decode cX2_writeSilo 15 = .ok (.istore_n 1, 1) := dk_60 (dk_at dksX2_writeSilo_0 15 rfl rfl)
theorem dX2_writeSilo_16 : decode cX2_writeSilo 16 = .ok (.iload_n 1, 1) := dk_27 (dk_at dksX2_writeSilo_0 16 rfl rfl)
theorem dX2_writeSilo_17 : decode cX2_writeSilo 17 = .ok (.aload_n 0, 1) := dk_42 (dk_at dksX2_writeSilo_0 17 rfl rfl)
theorem dX2_writeSilo_18 : decode cX2_writeSilo 18 = .ok (.invokevirtual 45, 3) := dk_182 0 45 (dk_at dksX2_writeSilo_0 18 rfl rfl)
theorem dX2_writeSilo_21 : decode cX2_writeSilo 21 = .ok (.if_icmp .ge 60, 3) := dk_162 0 60 (dk_at dksX2_writeSilo_0 21 rfl rfl)
theorem dX2_writeSilo_24 : decode cX2_writeSilo 24 = .ok (.iload_n 1, 1) := dk_27 (dk_at dksX2_writeSilo_1 0 rfl rfl)
theorem dX2_writeSilo_25 : decode cX2_writeSilo 25 = .ok (.ifCond .le 9, 3) := dk_158 0 9 (dk_at dksX2_writeSilo_1 1 rfl rfl)
theorem dX2_writeSilo_28 : decode cX2_writeSilo 28 = .ok (.aload_n 0, 1) := dk_42 (dk_at dksX2_writeSilo_1 4 rfl rfl)
theorem dX2_writeSilo_29 : decode cX2_writeSilo 29 = .ok (.bipush 32, 2) := dk_16 32 (dk_at dksX2_writeSilo_1 5 rfl rfl)
theorem dX2_writeSilo_31 : decode cX2_writeSilo 31 = .ok (.invokevirtual 308, 3) := dk_182 1 52 (dk_at dksX2_writeSilo_1 7 rfl rfl)
theorem dX2_writeSilo_34 : decode cX2_writeSilo 34 = .ok (.aload_n 0, 1) := dk_42 (dk_at dksX2_writeSilo_1 10 rfl rfl)
theorem dX2_writeSilo_35 : decode cX2_writeSilo 35 = .ok (.aload_n 0, 1) := dk_42 (dk_at dksX2_writeSilo_1 11 rfl rfl)
theorem dX2_writeSilo_36 : decode cX2_writeSilo 36 = .ok (.iload_n 1, 1) := dk_27 (dk_at dksX2_writeSilo_1 12 rfl rfl)
theorem dX2_writeSilo_37 : decode cX2_writeSilo 37 = .ok (.invokevirtual 49, 3) := dk_182 0 49 (dk_at dksX2_writeSilo_1 13 rfl rfl)
theorem dX2_writeSilo_40 : decode cX2_writeSilo 40 = .ok (.invokevirtual 311, 3) := dk_182 1 55 (dk_at dksX2_writeSilo_1 16 rfl rfl)
theorem dX2_writeSilo_43 : decode cX2_writeSilo 43 = .ok (.aload_n 0, 1) := dk_42 (dk_at dksX2_writeSilo_1 19 rfl rfl)
theorem dX2_writeSilo_44 : decode cX2_writeSilo 44 = .ok (.getfield 7, 3) := dk_180 0 7 (dk_at dksX2_writeSilo_1 20 rfl rfl)
theorem dX2_writeSilo_47 : decode cX2_writeSilo 47 = .ok (.bipush 31, 2) := dk_16 31 (dk_at dksX2_writeSilo_2 0 rfl rfl)
theorem dX2_writeSilo_49 : decode cX2_writeSilo 49 = .ok (.iload_n 1, 1) := dk_27 (dk_at dksX2_writeSilo_2 2 rfl rfl)
theorem dX2_writeSilo_50 : decode cX2_writeSilo 50 = .ok (.iadd, 1) := dk_96 (dk_at dksX2_writeSilo_2 3 rfl rfl)
theorem dX2_writeSilo_51 : decode cX2_writeSilo 51 = .ok (.iaload, 1) := dk_46 (dk_at dksX2_writeSilo_2 4 rfl rfl)
theorem dX2_writeSilo_52 : decode cX2_writeSilo 52 = .ok (.iconst 1, 1) := dk_4 (dk_at dksX2_writeSilo_2 5 rfl rfl)
theorem dX2_writeSilo_53 : decode cX2_writeSilo 53 = .ok (.if_icmp .ne 22, 3) := dk_160 0 22 (dk_at dksX2_writeSilo_2 6 rfl rfl)
theorem dX2_writeSilo_56 : decode cX2_writeSilo 56 = .ok (.aload_n 0, 1) := dk_42 (dk_at dksX2_writeSilo_2 9 rfl rfl)
theorem dX2_writeSilo_57 : decode cX2_writeSilo 57 = .ok (.aload_n 0, 1) := dk_42 (dk_at dksX2_writeSilo_2 10 rfl rfl)
theorem dX2_writeSilo_58 : decode cX2_writeSilo 58 = .ok (.iload_n 1, 1) := dk_27 (dk_at dksX2_writeSilo_2 11 rfl rfl)
theorem dX2_writeSilo_59 : decode cX2_writeSilo 59 = .ok (.invokevirtual 261, 3) := dk_182 1 5 (dk_at dksX2_writeSilo_2 12 rfl rfl)
theorem dX2_writeSilo_62 : decode cX2_writeSilo 62 = .ok (.ifCond .eq 8, 3) := dk_153 0 8 (dk_at dksX2_writeSilo_2 15 rfl rfl)
theorem dX2_writeSilo_65 : decode cX2_writeSilo 65 = .ok (.bipush 33, 2) := dk_16 33 (dk_at dksX2_writeSilo_2 18 rfl rfl)
theorem dX2_writeSilo_67 : decode cX2_writeSilo 67 = .ok (.goto 5, 3) := dk_167 0 5 (dk_at dksX2_writeSilo_2 20 rfl rfl)
theorem dX2_writeSilo_70 : decode cX2_writeSilo 70 = .ok (.bipush 120, 2) := dk_16 120 (dk_at dksX2_writeSilo_3 0 rfl rfl)
theorem dX2_writeSilo_72 : decode cX2_writeSilo 72 = .ok (.invokevirtual 308, 3) := dk_182 1 52 (dk_at dksX2_writeSilo_3 2 rfl rfl)
theorem dX2_writeSilo_75 : decode cX2_writeSilo 75 = .ok (.iinc 1 1, 3) := dk_132 1 1 (dk_at dksX2_writeSilo_3 5 rfl rfl)
theorem dX2_writeSilo_78 : decode cX2_writeSilo 78 = .ok (.goto (-62), 3) := dk_167 255 194 (dk_at dksX2_writeSilo_3 8 rfl rfl)
theorem dX2_writeSilo_81 : decode cX2_writeSilo 81 = .ok (.aload_n 0, 1) := dk_42 (dk_at dksX2_writeSilo_3 11 rfl rfl)
theorem dX2_writeSilo_82 : decode cX2_writeSilo 82 = .ok (.getfield 305, 3) := dk_180 1 49 (dk_at dksX2_writeSilo_3 12 rfl rfl)
theorem dX2_writeSilo_85 : decode cX2_writeSilo 85 = .ok (.ireturn, 1) := dk_172 (dk_at dksX2_writeSilo_3 15 rfl rfl)
abbrev cX2_says : ByteArray := prog_10_method_107_code
def yX2_says : MethodName := ⟨RX2, "says", "(I)V"⟩
def dkwX2_says_0 : List UInt8 := [42, 180, 0, 27, 42, 180, 1, 49, 27, 79, 42, 89, 180, 1, 49, 4, 96, 181, 1, 49, 177]
abbrev dktX2_says_0 : List UInt8 := dkwX2_says_0 ++ []
theorem dksX2_says_0 : cX2_says.data.toList.drop 0 = dktX2_says_0 := by decide +kernel
theorem dX2_says_0 : decode cX2_says 0 = .ok (.aload_n 0, 1) := dk_42 (dk_at dksX2_says_0 0 rfl rfl)
theorem dX2_says_1 : decode cX2_says 1 = .ok (.getfield 27, 3) := dk_180 0 27 (dk_at dksX2_says_0 1 rfl rfl)
theorem dX2_says_4 : decode cX2_says 4 = .ok (.aload_n 0, 1) := dk_42 (dk_at dksX2_says_0 4 rfl rfl)
theorem dX2_says_5 : decode cX2_says 5 = .ok (.getfield 305, 3) := dk_180 1 49 (dk_at dksX2_says_0 5 rfl rfl)
theorem dX2_says_8 : decode cX2_says 8 = .ok (.iload_n 1, 1) := dk_27 (dk_at dksX2_says_0 8 rfl rfl)
theorem dX2_says_9 : decode cX2_says 9 = .ok (.iastore, 1) := dk_79 (dk_at dksX2_says_0 9 rfl rfl)
theorem dX2_says_10 : decode cX2_says 10 = .ok (.aload_n 0, 1) := dk_42 (dk_at dksX2_says_0 10 rfl rfl)
theorem dX2_says_11 : decode cX2_says 11 = .ok (.dup, 1) := dk_89 (dk_at dksX2_says_0 11 rfl rfl)
theorem dX2_says_12 : decode cX2_says 12 = .ok (.getfield 305, 3) := dk_180 1 49 (dk_at dksX2_says_0 12 rfl rfl)
theorem dX2_says_15 : decode cX2_says 15 = .ok (.iconst 1, 1) := dk_4 (dk_at dksX2_says_0 15 rfl rfl)
theorem dX2_says_16 : decode cX2_says 16 = .ok (.iadd, 1) := dk_96 (dk_at dksX2_says_0 16 rfl rfl)
theorem dX2_says_17 : decode cX2_says 17 = .ok (.putfield 305, 3) := dk_181 1 49 (dk_at dksX2_says_0 17 rfl rfl)
theorem dX2_says_20 : decode cX2_says 20 = .ok (.return_, 1) := dk_177 (dk_at dksX2_says_0 20 rfl rfl)
abbrev cX2_saysNumber : ByteArray := prog_10_method_108_code
def yX2_saysNumber : MethodName := ⟨RX2, "saysNumber", "(I)V"⟩
def dkwX2_saysNumber_2 : List UInt8 := [177]
abbrev dktX2_saysNumber_2 : List UInt8 := dkwX2_saysNumber_2 ++ []
def dkwX2_saysNumber_1 : List UInt8 := [16, 48, 27, 16, 10, 108, 16, 10, 112, 96, 182, 1, 52, 42, 16, 48, 27, 16, 10, 112, 96, 182, 1, 52]
abbrev dktX2_saysNumber_1 : List UInt8 := dkwX2_saysNumber_1 ++ dktX2_saysNumber_2
def dkwX2_saysNumber_0 : List UInt8 := [27, 16, 99, 164, 0, 14, 42, 16, 48, 27, 16, 100, 108, 96, 182, 1, 52, 27, 16, 9, 164, 0, 17, 42]
abbrev dktX2_saysNumber_0 : List UInt8 := dkwX2_saysNumber_0 ++ dktX2_saysNumber_1
theorem dksX2_saysNumber_0 : cX2_saysNumber.data.toList.drop 0 = dktX2_saysNumber_0 := by decide +kernel
theorem dksX2_saysNumber_1 : cX2_saysNumber.data.toList.drop 24 = dktX2_saysNumber_1 := dk_seg dksX2_saysNumber_0 24 rfl rfl
theorem dksX2_saysNumber_2 : cX2_saysNumber.data.toList.drop 48 = dktX2_saysNumber_2 := dk_seg dksX2_saysNumber_1 24 rfl rfl
theorem dX2_saysNumber_0 : decode cX2_saysNumber 0 = .ok (.iload_n 1, 1) := dk_27 (dk_at dksX2_saysNumber_0 0 rfl rfl)
theorem dX2_saysNumber_1 : decode cX2_saysNumber 1 = .ok (.bipush 99, 2) := dk_16 99 (dk_at dksX2_saysNumber_0 1 rfl rfl)
theorem dX2_saysNumber_3 : decode cX2_saysNumber 3 = .ok (.if_icmp .le 14, 3) := dk_164 0 14 (dk_at dksX2_saysNumber_0 3 rfl rfl)
theorem dX2_saysNumber_6 : decode cX2_saysNumber 6 = .ok (.aload_n 0, 1) := dk_42 (dk_at dksX2_saysNumber_0 6 rfl rfl)
theorem dX2_saysNumber_7 : decode cX2_saysNumber 7 = .ok (.bipush 48, 2) := dk_16 48 (dk_at dksX2_saysNumber_0 7 rfl rfl)
theorem dX2_saysNumber_9 : decode cX2_saysNumber 9 = .ok (.iload_n 1, 1) := dk_27 (dk_at dksX2_saysNumber_0 9 rfl rfl)
theorem dX2_saysNumber_10 : decode cX2_saysNumber 10 = .ok (.bipush 100, 2) := dk_16 100 (dk_at dksX2_saysNumber_0 10 rfl rfl)
theorem dX2_saysNumber_12 : decode cX2_saysNumber 12 = .ok (.idiv, 1) := dk_108 (dk_at dksX2_saysNumber_0 12 rfl rfl)
theorem dX2_saysNumber_13 : decode cX2_saysNumber 13 = .ok (.iadd, 1) := dk_96 (dk_at dksX2_saysNumber_0 13 rfl rfl)
theorem dX2_saysNumber_14 : decode cX2_saysNumber 14 = .ok (.invokevirtual 308, 3) := dk_182 1 52 (dk_at dksX2_saysNumber_0 14 rfl rfl)
theorem dX2_saysNumber_17 : decode cX2_saysNumber 17 = .ok (.iload_n 1, 1) := dk_27 (dk_at dksX2_saysNumber_0 17 rfl rfl)
theorem dX2_saysNumber_18 : decode cX2_saysNumber 18 = .ok (.bipush 9, 2) := dk_16 9 (dk_at dksX2_saysNumber_0 18 rfl rfl)
theorem dX2_saysNumber_20 : decode cX2_saysNumber 20 = .ok (.if_icmp .le 17, 3) := dk_164 0 17 (dk_at dksX2_saysNumber_0 20 rfl rfl)
theorem dX2_saysNumber_23 : decode cX2_saysNumber 23 = .ok (.aload_n 0, 1) := dk_42 (dk_at dksX2_saysNumber_0 23 rfl rfl)
theorem dX2_saysNumber_24 : decode cX2_saysNumber 24 = .ok (.bipush 48, 2) := dk_16 48 (dk_at dksX2_saysNumber_1 0 rfl rfl)
theorem dX2_saysNumber_26 : decode cX2_saysNumber 26 = .ok (.iload_n 1, 1) := dk_27 (dk_at dksX2_saysNumber_1 2 rfl rfl)
theorem dX2_saysNumber_27 : decode cX2_saysNumber 27 = .ok (.bipush 10, 2) := dk_16 10 (dk_at dksX2_saysNumber_1 3 rfl rfl)
theorem dX2_saysNumber_29 : decode cX2_saysNumber 29 = .ok (.idiv, 1) := dk_108 (dk_at dksX2_saysNumber_1 5 rfl rfl)
theorem dX2_saysNumber_30 : decode cX2_saysNumber 30 = .ok (.bipush 10, 2) := dk_16 10 (dk_at dksX2_saysNumber_1 6 rfl rfl)
theorem dX2_saysNumber_32 : decode cX2_saysNumber 32 = .ok (.irem, 1) := dk_112 (dk_at dksX2_saysNumber_1 8 rfl rfl)
theorem dX2_saysNumber_33 : decode cX2_saysNumber 33 = .ok (.iadd, 1) := dk_96 (dk_at dksX2_saysNumber_1 9 rfl rfl)
theorem dX2_saysNumber_34 : decode cX2_saysNumber 34 = .ok (.invokevirtual 308, 3) := dk_182 1 52 (dk_at dksX2_saysNumber_1 10 rfl rfl)
theorem dX2_saysNumber_37 : decode cX2_saysNumber 37 = .ok (.aload_n 0, 1) := dk_42 (dk_at dksX2_saysNumber_1 13 rfl rfl)
theorem dX2_saysNumber_38 : decode cX2_saysNumber 38 = .ok (.bipush 48, 2) := dk_16 48 (dk_at dksX2_saysNumber_1 14 rfl rfl)
theorem dX2_saysNumber_40 : decode cX2_saysNumber 40 = .ok (.iload_n 1, 1) := dk_27 (dk_at dksX2_saysNumber_1 16 rfl rfl)
theorem dX2_saysNumber_41 : decode cX2_saysNumber 41 = .ok (.bipush 10, 2) := dk_16 10 (dk_at dksX2_saysNumber_1 17 rfl rfl)
theorem dX2_saysNumber_43 : decode cX2_saysNumber 43 = .ok (.irem, 1) := dk_112 (dk_at dksX2_saysNumber_1 19 rfl rfl)
theorem dX2_saysNumber_44 : decode cX2_saysNumber 44 = .ok (.iadd, 1) := dk_96 (dk_at dksX2_saysNumber_1 20 rfl rfl)
theorem dX2_saysNumber_45 : decode cX2_saysNumber 45 = .ok (.invokevirtual 308, 3) := dk_182 1 52 (dk_at dksX2_saysNumber_1 21 rfl rfl)
theorem dX2_saysNumber_48 : decode cX2_saysNumber 48 = .ok (.return_, 1) := dk_177 (dk_at dksX2_saysNumber_2 0 rfl rfl)
abbrev cX2_writeEchoes : ByteArray := prog_10_method_110_code
def yX2_writeEchoes : MethodName := ⟨RX2, "writeEchoes", "()I"⟩
def dkwX2_writeEchoes_5 : List UInt8 := [42, 180, 1, 49, 172]
abbrev dktX2_writeEchoes_5 : List UInt8 := dkwX2_writeEchoes_5 ++ []
def dkwX2_writeEchoes_4 : List UInt8 := [16, 42, 182, 1, 52, 132, 2, 1, 167, 255, 176, 42, 180, 1, 49, 154, 0, 9, 42, 16, 45, 182, 1, 52]
abbrev dktX2_writeEchoes_4 : List UInt8 := dkwX2_writeEchoes_4 ++ dktX2_writeEchoes_5
def dkwX2_writeEchoes_3 : List UInt8 := [182, 1, 55, 42, 28, 182, 0, 107, 153, 0, 9, 42, 16, 109, 182, 1, 52, 28, 27, 160, 0, 9, 42]
abbrev dktX2_writeEchoes_3 : List UInt8 := dkwX2_writeEchoes_3 ++ dktX2_writeEchoes_4
def dkwX2_writeEchoes_2 : List UInt8 := [42, 16, 32, 182, 1, 52, 42, 28, 182, 1, 55, 42, 16, 58, 182, 1, 52, 42, 42, 28, 182, 0, 101]
abbrev dktX2_writeEchoes_2 : List UInt8 := dkwX2_writeEchoes_2 ++ dktX2_writeEchoes_3
def dkwX2_writeEchoes_1 : List UInt8 := [182, 0, 60, 163, 0, 78, 42, 28, 182, 0, 101, 154, 0, 6, 167, 0, 61, 42, 180, 1, 49, 158, 0, 9]
abbrev dktX2_writeEchoes_1 : List UInt8 := dkwX2_writeEchoes_1 ++ dktX2_writeEchoes_2
def dkwX2_writeEchoes_0 : List UInt8 := [42, 182, 1, 0, 153, 0, 5, 3, 172, 42, 3, 181, 1, 49, 42, 182, 0, 110, 60, 3, 61, 28, 42]
abbrev dktX2_writeEchoes_0 : List UInt8 := dkwX2_writeEchoes_0 ++ dktX2_writeEchoes_1
theorem dksX2_writeEchoes_0 : cX2_writeEchoes.data.toList.drop 0 = dktX2_writeEchoes_0 := by decide +kernel
theorem dksX2_writeEchoes_1 : cX2_writeEchoes.data.toList.drop 23 = dktX2_writeEchoes_1 := dk_seg dksX2_writeEchoes_0 23 rfl rfl
theorem dksX2_writeEchoes_2 : cX2_writeEchoes.data.toList.drop 47 = dktX2_writeEchoes_2 := dk_seg dksX2_writeEchoes_1 24 rfl rfl
theorem dksX2_writeEchoes_3 : cX2_writeEchoes.data.toList.drop 70 = dktX2_writeEchoes_3 := dk_seg dksX2_writeEchoes_2 23 rfl rfl
theorem dksX2_writeEchoes_4 : cX2_writeEchoes.data.toList.drop 93 = dktX2_writeEchoes_4 := dk_seg dksX2_writeEchoes_3 23 rfl rfl
theorem dksX2_writeEchoes_5 : cX2_writeEchoes.data.toList.drop 117 = dktX2_writeEchoes_5 := dk_seg dksX2_writeEchoes_4 24 rfl rfl
theorem dX2_writeEchoes_0 : decode cX2_writeEchoes 0 = .ok (.aload_n 0, 1) := dk_42 (dk_at dksX2_writeEchoes_0 0 rfl rfl)
theorem dX2_writeEchoes_1 : decode cX2_writeEchoes 1 = .ok (.invokevirtual 256, 3) := dk_182 1 0 (dk_at dksX2_writeEchoes_0 1 rfl rfl)
theorem dX2_writeEchoes_4 : decode cX2_writeEchoes 4 = .ok (.ifCond .eq 5, 3) := dk_153 0 5 (dk_at dksX2_writeEchoes_0 4 rfl rfl)
theorem dX2_writeEchoes_7 : decode cX2_writeEchoes 7 = .ok (.iconst 0, 1) := dk_3 (dk_at dksX2_writeEchoes_0 7 rfl rfl)
theorem dX2_writeEchoes_8 : decode cX2_writeEchoes 8 = .ok (.ireturn, 1) := dk_172 (dk_at dksX2_writeEchoes_0 8 rfl rfl)
theorem dX2_writeEchoes_9 : decode cX2_writeEchoes 9 = .ok (.aload_n 0, 1) := dk_42 (dk_at dksX2_writeEchoes_0 9 rfl rfl)
theorem dX2_writeEchoes_10 : decode cX2_writeEchoes 10 = .ok (.iconst 0, 1) := dk_3 (dk_at dksX2_writeEchoes_0 10 rfl rfl)
theorem dX2_writeEchoes_11 : decode cX2_writeEchoes 11 = .ok (.putfield 305, 3) := dk_181 1 49 (dk_at dksX2_writeEchoes_0 11 rfl rfl)
theorem dX2_writeEchoes_14 : decode cX2_writeEchoes 14 = .ok (.aload_n 0, 1) := dk_42 (dk_at dksX2_writeEchoes_0 14 rfl rfl)
theorem dX2_writeEchoes_15 : decode cX2_writeEchoes 15 = .ok (.invokevirtual 110, 3) := dk_182 0 110 (dk_at dksX2_writeEchoes_0 15 rfl rfl)
theorem dX2_writeEchoes_18 : decode cX2_writeEchoes 18 = .ok (.istore_n 1, 1) := dk_60 (dk_at dksX2_writeEchoes_0 18 rfl rfl)
theorem dX2_writeEchoes_19 : decode cX2_writeEchoes 19 = .ok (.iconst 0, 1) := dk_3 (dk_at dksX2_writeEchoes_0 19 rfl rfl)
theorem dX2_writeEchoes_20 : decode cX2_writeEchoes 20 = .ok (.istore_n 2, 1) := dk_61 (dk_at dksX2_writeEchoes_0 20 rfl rfl)
theorem dX2_writeEchoes_21 : decode cX2_writeEchoes 21 = .ok (.iload_n 2, 1) := dk_28 (dk_at dksX2_writeEchoes_0 21 rfl rfl)
theorem dX2_writeEchoes_22 : decode cX2_writeEchoes 22 = .ok (.aload_n 0, 1) := dk_42 (dk_at dksX2_writeEchoes_0 22 rfl rfl)
theorem dX2_writeEchoes_23 : decode cX2_writeEchoes 23 = .ok (.invokevirtual 60, 3) := dk_182 0 60 (dk_at dksX2_writeEchoes_1 0 rfl rfl)
theorem dX2_writeEchoes_26 : decode cX2_writeEchoes 26 = .ok (.if_icmp .gt 78, 3) := dk_163 0 78 (dk_at dksX2_writeEchoes_1 3 rfl rfl)
theorem dX2_writeEchoes_29 : decode cX2_writeEchoes 29 = .ok (.aload_n 0, 1) := dk_42 (dk_at dksX2_writeEchoes_1 6 rfl rfl)
theorem dX2_writeEchoes_30 : decode cX2_writeEchoes 30 = .ok (.iload_n 2, 1) := dk_28 (dk_at dksX2_writeEchoes_1 7 rfl rfl)
theorem dX2_writeEchoes_31 : decode cX2_writeEchoes 31 = .ok (.invokevirtual 101, 3) := dk_182 0 101 (dk_at dksX2_writeEchoes_1 8 rfl rfl)
theorem dX2_writeEchoes_34 : decode cX2_writeEchoes 34 = .ok (.ifCond .ne 6, 3) := dk_154 0 6 (dk_at dksX2_writeEchoes_1 11 rfl rfl)
theorem dX2_writeEchoes_37 : decode cX2_writeEchoes 37 = .ok (.goto 61, 3) := dk_167 0 61 (dk_at dksX2_writeEchoes_1 14 rfl rfl)
theorem dX2_writeEchoes_40 : decode cX2_writeEchoes 40 = .ok (.aload_n 0, 1) := dk_42 (dk_at dksX2_writeEchoes_1 17 rfl rfl)
theorem dX2_writeEchoes_41 : decode cX2_writeEchoes 41 = .ok (.getfield 305, 3) := dk_180 1 49 (dk_at dksX2_writeEchoes_1 18 rfl rfl)
theorem dX2_writeEchoes_44 : decode cX2_writeEchoes 44 = .ok (.ifCond .le 9, 3) := dk_158 0 9 (dk_at dksX2_writeEchoes_1 21 rfl rfl)
theorem dX2_writeEchoes_47 : decode cX2_writeEchoes 47 = .ok (.aload_n 0, 1) := dk_42 (dk_at dksX2_writeEchoes_2 0 rfl rfl)
theorem dX2_writeEchoes_48 : decode cX2_writeEchoes 48 = .ok (.bipush 32, 2) := dk_16 32 (dk_at dksX2_writeEchoes_2 1 rfl rfl)
theorem dX2_writeEchoes_50 : decode cX2_writeEchoes 50 = .ok (.invokevirtual 308, 3) := dk_182 1 52 (dk_at dksX2_writeEchoes_2 3 rfl rfl)
theorem dX2_writeEchoes_53 : decode cX2_writeEchoes 53 = .ok (.aload_n 0, 1) := dk_42 (dk_at dksX2_writeEchoes_2 6 rfl rfl)
theorem dX2_writeEchoes_54 : decode cX2_writeEchoes 54 = .ok (.iload_n 2, 1) := dk_28 (dk_at dksX2_writeEchoes_2 7 rfl rfl)
theorem dX2_writeEchoes_55 : decode cX2_writeEchoes 55 = .ok (.invokevirtual 311, 3) := dk_182 1 55 (dk_at dksX2_writeEchoes_2 8 rfl rfl)
theorem dX2_writeEchoes_58 : decode cX2_writeEchoes 58 = .ok (.aload_n 0, 1) := dk_42 (dk_at dksX2_writeEchoes_2 11 rfl rfl)
theorem dX2_writeEchoes_59 : decode cX2_writeEchoes 59 = .ok (.bipush 58, 2) := dk_16 58 (dk_at dksX2_writeEchoes_2 12 rfl rfl)
theorem dX2_writeEchoes_61 : decode cX2_writeEchoes 61 = .ok (.invokevirtual 308, 3) := dk_182 1 52 (dk_at dksX2_writeEchoes_2 14 rfl rfl)
theorem dX2_writeEchoes_64 : decode cX2_writeEchoes 64 = .ok (.aload_n 0, 1) := dk_42 (dk_at dksX2_writeEchoes_2 17 rfl rfl)
theorem dX2_writeEchoes_65 : decode cX2_writeEchoes 65 = .ok (.aload_n 0, 1) := dk_42 (dk_at dksX2_writeEchoes_2 18 rfl rfl)
theorem dX2_writeEchoes_66 : decode cX2_writeEchoes 66 = .ok (.iload_n 2, 1) := dk_28 (dk_at dksX2_writeEchoes_2 19 rfl rfl)
theorem dX2_writeEchoes_67 : decode cX2_writeEchoes 67 = .ok (.invokevirtual 101, 3) := dk_182 0 101 (dk_at dksX2_writeEchoes_2 20 rfl rfl)
theorem dX2_writeEchoes_70 : decode cX2_writeEchoes 70 = .ok (.invokevirtual 311, 3) := dk_182 1 55 (dk_at dksX2_writeEchoes_3 0 rfl rfl)
theorem dX2_writeEchoes_73 : decode cX2_writeEchoes 73 = .ok (.aload_n 0, 1) := dk_42 (dk_at dksX2_writeEchoes_3 3 rfl rfl)
theorem dX2_writeEchoes_74 : decode cX2_writeEchoes 74 = .ok (.iload_n 2, 1) := dk_28 (dk_at dksX2_writeEchoes_3 4 rfl rfl)
theorem dX2_writeEchoes_75 : decode cX2_writeEchoes 75 = .ok (.invokevirtual 107, 3) := dk_182 0 107 (dk_at dksX2_writeEchoes_3 5 rfl rfl)
theorem dX2_writeEchoes_78 : decode cX2_writeEchoes 78 = .ok (.ifCond .eq 9, 3) := dk_153 0 9 (dk_at dksX2_writeEchoes_3 8 rfl rfl)
theorem dX2_writeEchoes_81 : decode cX2_writeEchoes 81 = .ok (.aload_n 0, 1) := dk_42 (dk_at dksX2_writeEchoes_3 11 rfl rfl)
theorem dX2_writeEchoes_82 : decode cX2_writeEchoes 82 = .ok (.bipush 109, 2) := dk_16 109 (dk_at dksX2_writeEchoes_3 12 rfl rfl)
theorem dX2_writeEchoes_84 : decode cX2_writeEchoes 84 = .ok (.invokevirtual 308, 3) := dk_182 1 52 (dk_at dksX2_writeEchoes_3 14 rfl rfl)
theorem dX2_writeEchoes_87 : decode cX2_writeEchoes 87 = .ok (.iload_n 2, 1) := dk_28 (dk_at dksX2_writeEchoes_3 17 rfl rfl)
theorem dX2_writeEchoes_88 : decode cX2_writeEchoes 88 = .ok (.iload_n 1, 1) := dk_27 (dk_at dksX2_writeEchoes_3 18 rfl rfl)
theorem dX2_writeEchoes_89 : decode cX2_writeEchoes 89 = .ok (.if_icmp .ne 9, 3) := dk_160 0 9 (dk_at dksX2_writeEchoes_3 19 rfl rfl)
theorem dX2_writeEchoes_92 : decode cX2_writeEchoes 92 = .ok (.aload_n 0, 1) := dk_42 (dk_at dksX2_writeEchoes_3 22 rfl rfl)
theorem dX2_writeEchoes_93 : decode cX2_writeEchoes 93 = .ok (.bipush 42, 2) := dk_16 42 (dk_at dksX2_writeEchoes_4 0 rfl rfl)
theorem dX2_writeEchoes_95 : decode cX2_writeEchoes 95 = .ok (.invokevirtual 308, 3) := dk_182 1 52 (dk_at dksX2_writeEchoes_4 2 rfl rfl)
theorem dX2_writeEchoes_98 : decode cX2_writeEchoes 98 = .ok (.iinc 2 1, 3) := dk_132 2 1 (dk_at dksX2_writeEchoes_4 5 rfl rfl)
theorem dX2_writeEchoes_101 : decode cX2_writeEchoes 101 = .ok (.goto (-80), 3) := dk_167 255 176 (dk_at dksX2_writeEchoes_4 8 rfl rfl)
theorem dX2_writeEchoes_104 : decode cX2_writeEchoes 104 = .ok (.aload_n 0, 1) := dk_42 (dk_at dksX2_writeEchoes_4 11 rfl rfl)
theorem dX2_writeEchoes_105 : decode cX2_writeEchoes 105 = .ok (.getfield 305, 3) := dk_180 1 49 (dk_at dksX2_writeEchoes_4 12 rfl rfl)
theorem dX2_writeEchoes_108 : decode cX2_writeEchoes 108 = .ok (.ifCond .ne 9, 3) := dk_154 0 9 (dk_at dksX2_writeEchoes_4 15 rfl rfl)
theorem dX2_writeEchoes_111 : decode cX2_writeEchoes 111 = .ok (.aload_n 0, 1) := dk_42 (dk_at dksX2_writeEchoes_4 18 rfl rfl)
theorem dX2_writeEchoes_112 : decode cX2_writeEchoes 112 = .ok (.bipush 45, 2) := dk_16 45 (dk_at dksX2_writeEchoes_4 19 rfl rfl)
theorem dX2_writeEchoes_114 : decode cX2_writeEchoes 114 = .ok (.invokevirtual 308, 3) := dk_182 1 52 (dk_at dksX2_writeEchoes_4 21 rfl rfl)
theorem dX2_writeEchoes_117 : decode cX2_writeEchoes 117 = .ok (.aload_n 0, 1) := dk_42 (dk_at dksX2_writeEchoes_5 0 rfl rfl)
theorem dX2_writeEchoes_118 : decode cX2_writeEchoes 118 = .ok (.getfield 305, 3) := dk_180 1 49 (dk_at dksX2_writeEchoes_5 1 rfl rfl)
theorem dX2_writeEchoes_121 : decode cX2_writeEchoes 121 = .ok (.ireturn, 1) := dk_172 (dk_at dksX2_writeEchoes_5 4 rfl rfl)
abbrev cX2_writeRow : ByteArray := prog_10_method_112_code
def yX2_writeRow : MethodName := ⟨RX2, "writeRow", "(I)I"⟩
def dkwX2_writeRow_5 : List UInt8 := [180, 1, 49, 172]
abbrev dktX2_writeRow_5 : List UInt8 := dkwX2_writeRow_5 ++ []
def dkwX2_writeRow_4 : List UInt8 := [167, 0, 14, 29, 153, 0, 8, 16, 111, 167, 0, 5, 16, 46, 182, 1, 52, 132, 2, 1, 167, 255, 187, 42]
abbrev dktX2_writeRow_4 : List UInt8 := dkwX2_writeRow_4 ++ dktX2_writeRow_5
def dkwX2_writeRow_3 : List UInt8 := [182, 1, 58, 153, 0, 7, 4, 167, 0, 4, 3, 62, 42, 42, 28, 182, 0, 49, 27, 161, 0, 8, 16, 35]
abbrev dktX2_writeRow_3 : List UInt8 := dkwX2_writeRow_3 ++ dktX2_writeRow_4
def dkwX2_writeRow_2 : List UInt8 := [182, 0, 45, 162, 0, 67, 28, 42, 180, 0, 7, 7, 46, 160, 0, 20, 42, 42, 182, 0, 60, 27, 100]
abbrev dktX2_writeRow_2 : List UInt8 := dkwX2_writeRow_2 ++ dktX2_writeRow_3
def dkwX2_writeRow_1 : List UInt8 := [167, 0, 4, 3, 5, 182, 0, 37, 153, 0, 5, 3, 172, 42, 3, 181, 1, 49, 3, 61, 28, 42]
abbrev dktX2_writeRow_1 : List UInt8 := dkwX2_writeRow_1 ++ dktX2_writeRow_2
def dkwX2_writeRow_0 : List UInt8 := [42, 182, 1, 0, 154, 0, 30, 42, 27, 133, 10, 42, 182, 0, 60, 133, 184, 0, 170, 154, 0, 7, 4]
abbrev dktX2_writeRow_0 : List UInt8 := dkwX2_writeRow_0 ++ dktX2_writeRow_1
theorem dksX2_writeRow_0 : cX2_writeRow.data.toList.drop 0 = dktX2_writeRow_0 := by decide +kernel
theorem dksX2_writeRow_1 : cX2_writeRow.data.toList.drop 23 = dktX2_writeRow_1 := dk_seg dksX2_writeRow_0 23 rfl rfl
theorem dksX2_writeRow_2 : cX2_writeRow.data.toList.drop 45 = dktX2_writeRow_2 := dk_seg dksX2_writeRow_1 22 rfl rfl
theorem dksX2_writeRow_3 : cX2_writeRow.data.toList.drop 68 = dktX2_writeRow_3 := dk_seg dksX2_writeRow_2 23 rfl rfl
theorem dksX2_writeRow_4 : cX2_writeRow.data.toList.drop 92 = dktX2_writeRow_4 := dk_seg dksX2_writeRow_3 24 rfl rfl
theorem dksX2_writeRow_5 : cX2_writeRow.data.toList.drop 116 = dktX2_writeRow_5 := dk_seg dksX2_writeRow_4 24 rfl rfl
theorem dX2_writeRow_0 : decode cX2_writeRow 0 = .ok (.aload_n 0, 1) := dk_42 (dk_at dksX2_writeRow_0 0 rfl rfl)
theorem dX2_writeRow_1 : decode cX2_writeRow 1 = .ok (.invokevirtual 256, 3) := dk_182 1 0 (dk_at dksX2_writeRow_0 1 rfl rfl)
theorem dX2_writeRow_4 : decode cX2_writeRow 4 = .ok (.ifCond .ne 30, 3) := dk_154 0 30 (dk_at dksX2_writeRow_0 4 rfl rfl)
theorem dX2_writeRow_7 : decode cX2_writeRow 7 = .ok (.aload_n 0, 1) := dk_42 (dk_at dksX2_writeRow_0 7 rfl rfl)
theorem dX2_writeRow_8 : decode cX2_writeRow 8 = .ok (.iload_n 1, 1) := dk_27 (dk_at dksX2_writeRow_0 8 rfl rfl)
theorem dX2_writeRow_9 : decode cX2_writeRow 9 = .ok (.i2l, 1) := dk_133 (dk_at dksX2_writeRow_0 9 rfl rfl)
theorem dX2_writeRow_10 : decode cX2_writeRow 10 = .ok (.lconst 1, 1) := dk_10 (dk_at dksX2_writeRow_0 10 rfl rfl)
theorem dX2_writeRow_11 : decode cX2_writeRow 11 = .ok (.aload_n 0, 1) := dk_42 (dk_at dksX2_writeRow_0 11 rfl rfl)
theorem dX2_writeRow_12 : decode cX2_writeRow 12 = .ok (.invokevirtual 60, 3) := dk_182 0 60 (dk_at dksX2_writeRow_0 12 rfl rfl)
theorem dX2_writeRow_15 : decode cX2_writeRow 15 = .ok (.i2l, 1) := dk_133 (dk_at dksX2_writeRow_0 15 rfl rfl)
theorem dX2_writeRow_16 : decode cX2_writeRow 16 = .ok (.invokestatic 170, 3) := dk_184 0 170 (dk_at dksX2_writeRow_0 16 rfl rfl)
theorem dX2_writeRow_19 : decode cX2_writeRow 19 = .ok (.ifCond .ne 7, 3) := dk_154 0 7 (dk_at dksX2_writeRow_0 19 rfl rfl)
theorem dX2_writeRow_22 : decode cX2_writeRow 22 = .ok (.iconst 1, 1) := dk_4 (dk_at dksX2_writeRow_0 22 rfl rfl)
theorem dX2_writeRow_23 : decode cX2_writeRow 23 = .ok (.goto 4, 3) := dk_167 0 4 (dk_at dksX2_writeRow_1 0 rfl rfl)
theorem dX2_writeRow_26 : decode cX2_writeRow 26 = .ok (.iconst 0, 1) := dk_3 (dk_at dksX2_writeRow_1 3 rfl rfl)
theorem dX2_writeRow_27 : decode cX2_writeRow 27 = .ok (.iconst 2, 1) := dk_5 (dk_at dksX2_writeRow_1 4 rfl rfl)
theorem dX2_writeRow_28 : decode cX2_writeRow 28 = .ok (.invokevirtual 37, 3) := dk_182 0 37 (dk_at dksX2_writeRow_1 5 rfl rfl)
theorem dX2_writeRow_31 : decode cX2_writeRow 31 = .ok (.ifCond .eq 5, 3) := dk_153 0 5 (dk_at dksX2_writeRow_1 8 rfl rfl)
theorem dX2_writeRow_34 : decode cX2_writeRow 34 = .ok (.iconst 0, 1) := dk_3 (dk_at dksX2_writeRow_1 11 rfl rfl)
theorem dX2_writeRow_35 : decode cX2_writeRow 35 = .ok (.ireturn, 1) := dk_172 (dk_at dksX2_writeRow_1 12 rfl rfl)
theorem dX2_writeRow_36 : decode cX2_writeRow 36 = .ok (.aload_n 0, 1) := dk_42 (dk_at dksX2_writeRow_1 13 rfl rfl)
theorem dX2_writeRow_37 : decode cX2_writeRow 37 = .ok (.iconst 0, 1) := dk_3 (dk_at dksX2_writeRow_1 14 rfl rfl)
theorem dX2_writeRow_38 : decode cX2_writeRow 38 = .ok (.putfield 305, 3) := dk_181 1 49 (dk_at dksX2_writeRow_1 15 rfl rfl)
theorem dX2_writeRow_41 : decode cX2_writeRow 41 = .ok (.iconst 0, 1) := dk_3 (dk_at dksX2_writeRow_1 18 rfl rfl)
theorem dX2_writeRow_42 : decode cX2_writeRow 42 = .ok (.istore_n 2, 1) := dk_61 (dk_at dksX2_writeRow_1 19 rfl rfl)
theorem dX2_writeRow_43 : decode cX2_writeRow 43 = .ok (.iload_n 2, 1) := dk_28 (dk_at dksX2_writeRow_1 20 rfl rfl)
theorem dX2_writeRow_44 : decode cX2_writeRow 44 = .ok (.aload_n 0, 1) := dk_42 (dk_at dksX2_writeRow_1 21 rfl rfl)
theorem dX2_writeRow_45 : decode cX2_writeRow 45 = .ok (.invokevirtual 45, 3) := dk_182 0 45 (dk_at dksX2_writeRow_2 0 rfl rfl)
theorem dX2_writeRow_48 : decode cX2_writeRow 48 = .ok (.if_icmp .ge 67, 3) := dk_162 0 67 (dk_at dksX2_writeRow_2 3 rfl rfl)
theorem dX2_writeRow_51 : decode cX2_writeRow 51 = .ok (.iload_n 2, 1) := dk_28 (dk_at dksX2_writeRow_2 6 rfl rfl)
theorem dX2_writeRow_52 : decode cX2_writeRow 52 = .ok (.aload_n 0, 1) := dk_42 (dk_at dksX2_writeRow_2 7 rfl rfl)
theorem dX2_writeRow_53 : decode cX2_writeRow 53 = .ok (.getfield 7, 3) := dk_180 0 7 (dk_at dksX2_writeRow_2 8 rfl rfl)
theorem dX2_writeRow_56 : decode cX2_writeRow 56 = .ok (.iconst 4, 1) := dk_7 (dk_at dksX2_writeRow_2 11 rfl rfl)
theorem dX2_writeRow_57 : decode cX2_writeRow 57 = .ok (.iaload, 1) := dk_46 (dk_at dksX2_writeRow_2 12 rfl rfl)
theorem dX2_writeRow_58 : decode cX2_writeRow 58 = .ok (.if_icmp .ne 20, 3) := dk_160 0 20 (dk_at dksX2_writeRow_2 13 rfl rfl)
theorem dX2_writeRow_61 : decode cX2_writeRow 61 = .ok (.aload_n 0, 1) := dk_42 (dk_at dksX2_writeRow_2 16 rfl rfl)
theorem dX2_writeRow_62 : decode cX2_writeRow 62 = .ok (.aload_n 0, 1) := dk_42 (dk_at dksX2_writeRow_2 17 rfl rfl)
theorem dX2_writeRow_63 : decode cX2_writeRow 63 = .ok (.invokevirtual 60, 3) := dk_182 0 60 (dk_at dksX2_writeRow_2 18 rfl rfl)
theorem dX2_writeRow_66 : decode cX2_writeRow 66 = .ok (.iload_n 1, 1) := dk_27 (dk_at dksX2_writeRow_2 21 rfl rfl)
theorem dX2_writeRow_67 : decode cX2_writeRow 67 = .ok (.isub, 1) := dk_100 (dk_at dksX2_writeRow_2 22 rfl rfl)
theorem dX2_writeRow_68 : decode cX2_writeRow 68 = .ok (.invokevirtual 314, 3) := dk_182 1 58 (dk_at dksX2_writeRow_3 0 rfl rfl)
theorem dX2_writeRow_71 : decode cX2_writeRow 71 = .ok (.ifCond .eq 7, 3) := dk_153 0 7 (dk_at dksX2_writeRow_3 3 rfl rfl)
theorem dX2_writeRow_74 : decode cX2_writeRow 74 = .ok (.iconst 1, 1) := dk_4 (dk_at dksX2_writeRow_3 6 rfl rfl)
theorem dX2_writeRow_75 : decode cX2_writeRow 75 = .ok (.goto 4, 3) := dk_167 0 4 (dk_at dksX2_writeRow_3 7 rfl rfl)
theorem dX2_writeRow_78 : decode cX2_writeRow 78 = .ok (.iconst 0, 1) := dk_3 (dk_at dksX2_writeRow_3 10 rfl rfl)
theorem dX2_writeRow_79 : decode cX2_writeRow 79 = .ok (.istore_n 3, 1) := dk_62 (dk_at dksX2_writeRow_3 11 rfl rfl)
theorem dX2_writeRow_80 : decode cX2_writeRow 80 = .ok (.aload_n 0, 1) := dk_42 (dk_at dksX2_writeRow_3 12 rfl rfl)
theorem dX2_writeRow_81 : decode cX2_writeRow 81 = .ok (.aload_n 0, 1) := dk_42 (dk_at dksX2_writeRow_3 13 rfl rfl)
theorem dX2_writeRow_82 : decode cX2_writeRow 82 = .ok (.iload_n 2, 1) := dk_28 (dk_at dksX2_writeRow_3 14 rfl rfl)
theorem dX2_writeRow_83 : decode cX2_writeRow 83 = .ok (.invokevirtual 49, 3) := dk_182 0 49 (dk_at dksX2_writeRow_3 15 rfl rfl)
theorem dX2_writeRow_86 : decode cX2_writeRow 86 = .ok (.iload_n 1, 1) := dk_27 (dk_at dksX2_writeRow_3 18 rfl rfl)
theorem dX2_writeRow_87 : decode cX2_writeRow 87 = .ok (.if_icmp .lt 8, 3) := dk_161 0 8 (dk_at dksX2_writeRow_3 19 rfl rfl)
theorem dX2_writeRow_90 : decode cX2_writeRow 90 = .ok (.bipush 35, 2) := dk_16 35 (dk_at dksX2_writeRow_3 22 rfl rfl)
theorem dX2_writeRow_92 : decode cX2_writeRow 92 = .ok (.goto 14, 3) := dk_167 0 14 (dk_at dksX2_writeRow_4 0 rfl rfl)
theorem dX2_writeRow_95 : decode cX2_writeRow 95 = .ok (.iload_n 3, 1) := dk_29 (dk_at dksX2_writeRow_4 3 rfl rfl)
theorem dX2_writeRow_96 : decode cX2_writeRow 96 = .ok (.ifCond .eq 8, 3) := dk_153 0 8 (dk_at dksX2_writeRow_4 4 rfl rfl)
theorem dX2_writeRow_99 : decode cX2_writeRow 99 = .ok (.bipush 111, 2) := dk_16 111 (dk_at dksX2_writeRow_4 7 rfl rfl)
theorem dX2_writeRow_101 : decode cX2_writeRow 101 = .ok (.goto 5, 3) := dk_167 0 5 (dk_at dksX2_writeRow_4 9 rfl rfl)
theorem dX2_writeRow_104 : decode cX2_writeRow 104 = .ok (.bipush 46, 2) := dk_16 46 (dk_at dksX2_writeRow_4 12 rfl rfl)
theorem dX2_writeRow_106 : decode cX2_writeRow 106 = .ok (.invokevirtual 308, 3) := dk_182 1 52 (dk_at dksX2_writeRow_4 14 rfl rfl)
theorem dX2_writeRow_109 : decode cX2_writeRow 109 = .ok (.iinc 2 1, 3) := dk_132 2 1 (dk_at dksX2_writeRow_4 17 rfl rfl)
theorem dX2_writeRow_112 : decode cX2_writeRow 112 = .ok (.goto (-69), 3) := dk_167 255 187 (dk_at dksX2_writeRow_4 20 rfl rfl)
theorem dX2_writeRow_115 : decode cX2_writeRow 115 = .ok (.aload_n 0, 1) := dk_42 (dk_at dksX2_writeRow_4 23 rfl rfl)
theorem dX2_writeRow_116 : decode cX2_writeRow 116 = .ok (.getfield 305, 3) := dk_180 1 49 (dk_at dksX2_writeRow_5 0 rfl rfl)
theorem dX2_writeRow_119 : decode cX2_writeRow 119 = .ok (.ireturn, 1) := dk_172 (dk_at dksX2_writeRow_5 3 rfl rfl)
abbrev cX2_hasBar : ByteArray := prog_10_method_111_code
def yX2_hasBar : MethodName := ⟨RX2, "hasBar", "(I)Z"⟩
def dkwX2_hasBar_1 : List UInt8 := [132, 2, 1, 167, 255, 231, 3, 172]
abbrev dktX2_hasBar_1 : List UInt8 := dkwX2_hasBar_1 ++ []
def dkwX2_hasBar_0 : List UInt8 := [3, 61, 28, 42, 180, 0, 7, 16, 21, 46, 162, 0, 20, 42, 28, 182, 0, 89, 27, 160, 0, 5, 4, 172]
abbrev dktX2_hasBar_0 : List UInt8 := dkwX2_hasBar_0 ++ dktX2_hasBar_1
theorem dksX2_hasBar_0 : cX2_hasBar.data.toList.drop 0 = dktX2_hasBar_0 := by decide +kernel
theorem dksX2_hasBar_1 : cX2_hasBar.data.toList.drop 24 = dktX2_hasBar_1 := dk_seg dksX2_hasBar_0 24 rfl rfl
theorem dX2_hasBar_0 : decode cX2_hasBar 0 = .ok (.iconst 0, 1) := dk_3 (dk_at dksX2_hasBar_0 0 rfl rfl)
theorem dX2_hasBar_1 : decode cX2_hasBar 1 = .ok (.istore_n 2, 1) := dk_61 (dk_at dksX2_hasBar_0 1 rfl rfl)
theorem dX2_hasBar_2 : decode cX2_hasBar 2 = .ok (.iload_n 2, 1) := dk_28 (dk_at dksX2_hasBar_0 2 rfl rfl)
theorem dX2_hasBar_3 : decode cX2_hasBar 3 = .ok (.aload_n 0, 1) := dk_42 (dk_at dksX2_hasBar_0 3 rfl rfl)
theorem dX2_hasBar_4 : decode cX2_hasBar 4 = .ok (.getfield 7, 3) := dk_180 0 7 (dk_at dksX2_hasBar_0 4 rfl rfl)
theorem dX2_hasBar_7 : decode cX2_hasBar 7 = .ok (.bipush 21, 2) := dk_16 21 (dk_at dksX2_hasBar_0 7 rfl rfl)
theorem dX2_hasBar_9 : decode cX2_hasBar 9 = .ok (.iaload, 1) := dk_46 (dk_at dksX2_hasBar_0 9 rfl rfl)
theorem dX2_hasBar_10 : decode cX2_hasBar 10 = .ok (.if_icmp .ge 20, 3) := dk_162 0 20 (dk_at dksX2_hasBar_0 10 rfl rfl)
theorem dX2_hasBar_13 : decode cX2_hasBar 13 = .ok (.aload_n 0, 1) := dk_42 (dk_at dksX2_hasBar_0 13 rfl rfl)
theorem dX2_hasBar_14 : decode cX2_hasBar 14 = .ok (.iload_n 2, 1) := dk_28 (dk_at dksX2_hasBar_0 14 rfl rfl)
theorem dX2_hasBar_15 : decode cX2_hasBar 15 = .ok (.invokevirtual 89, 3) := dk_182 0 89 (dk_at dksX2_hasBar_0 15 rfl rfl)
theorem dX2_hasBar_18 : decode cX2_hasBar 18 = .ok (.iload_n 1, 1) := dk_27 (dk_at dksX2_hasBar_0 18 rfl rfl)
theorem dX2_hasBar_19 : decode cX2_hasBar 19 = .ok (.if_icmp .ne 5, 3) := dk_160 0 5 (dk_at dksX2_hasBar_0 19 rfl rfl)
theorem dX2_hasBar_22 : decode cX2_hasBar 22 = .ok (.iconst 1, 1) := dk_4 (dk_at dksX2_hasBar_0 22 rfl rfl)
theorem dX2_hasBar_23 : decode cX2_hasBar 23 = .ok (.ireturn, 1) := dk_172 (dk_at dksX2_hasBar_0 23 rfl rfl)
theorem dX2_hasBar_24 : decode cX2_hasBar 24 = .ok (.iinc 2 1, 3) := dk_132 2 1 (dk_at dksX2_hasBar_1 0 rfl rfl)
theorem dX2_hasBar_27 : decode cX2_hasBar 27 = .ok (.goto (-25), 3) := dk_167 255 231 (dk_at dksX2_hasBar_1 3 rfl rfl)
theorem dX2_hasBar_30 : decode cX2_hasBar 30 = .ok (.iconst 0, 1) := dk_3 (dk_at dksX2_hasBar_1 6 rfl rfl)
theorem dX2_hasBar_31 : decode cX2_hasBar 31 = .ok (.ireturn, 1) := dk_172 (dk_at dksX2_hasBar_1 7 rfl rfl)
abbrev cX2_textByte : ByteArray := prog_10_method_113_code
def yX2_textByte : MethodName := ⟨RX2, "textByte", "(I)I"⟩
def dkwX2_textByte_1 : List UInt8 := [167, 0, 4, 3, 4, 182, 0, 37, 153, 0, 7, 3, 167, 0, 9, 42, 180, 0, 27, 27, 46, 172]
abbrev dktX2_textByte_1 : List UInt8 := dkwX2_textByte_1 ++ []
def dkwX2_textByte_0 : List UInt8 := [42, 3, 181, 0, 30, 42, 27, 133, 9, 42, 180, 1, 49, 4, 100, 133, 184, 0, 170, 154, 0, 7, 4]
abbrev dktX2_textByte_0 : List UInt8 := dkwX2_textByte_0 ++ dktX2_textByte_1
theorem dksX2_textByte_0 : cX2_textByte.data.toList.drop 0 = dktX2_textByte_0 := by decide +kernel
theorem dksX2_textByte_1 : cX2_textByte.data.toList.drop 23 = dktX2_textByte_1 := dk_seg dksX2_textByte_0 23 rfl rfl
theorem dX2_textByte_0 : decode cX2_textByte 0 = .ok (.aload_n 0, 1) := dk_42 (dk_at dksX2_textByte_0 0 rfl rfl)
theorem dX2_textByte_1 : decode cX2_textByte 1 = .ok (.iconst 0, 1) := dk_3 (dk_at dksX2_textByte_0 1 rfl rfl)
theorem dX2_textByte_2 : decode cX2_textByte 2 = .ok (.putfield 30, 3) := dk_181 0 30 (dk_at dksX2_textByte_0 2 rfl rfl)
theorem dX2_textByte_5 : decode cX2_textByte 5 = .ok (.aload_n 0, 1) := dk_42 (dk_at dksX2_textByte_0 5 rfl rfl)
theorem dX2_textByte_6 : decode cX2_textByte 6 = .ok (.iload_n 1, 1) := dk_27 (dk_at dksX2_textByte_0 6 rfl rfl)
theorem dX2_textByte_7 : decode cX2_textByte 7 = .ok (.i2l, 1) := dk_133 (dk_at dksX2_textByte_0 7 rfl rfl)
theorem dX2_textByte_8 : decode cX2_textByte 8 = .ok (.lconst 0, 1) := dk_9 (dk_at dksX2_textByte_0 8 rfl rfl)
theorem dX2_textByte_9 : decode cX2_textByte 9 = .ok (.aload_n 0, 1) := dk_42 (dk_at dksX2_textByte_0 9 rfl rfl)
theorem dX2_textByte_10 : decode cX2_textByte 10 = .ok (.getfield 305, 3) := dk_180 1 49 (dk_at dksX2_textByte_0 10 rfl rfl)
theorem dX2_textByte_13 : decode cX2_textByte 13 = .ok (.iconst 1, 1) := dk_4 (dk_at dksX2_textByte_0 13 rfl rfl)
theorem dX2_textByte_14 : decode cX2_textByte 14 = .ok (.isub, 1) := dk_100 (dk_at dksX2_textByte_0 14 rfl rfl)
theorem dX2_textByte_15 : decode cX2_textByte 15 = .ok (.i2l, 1) := dk_133 (dk_at dksX2_textByte_0 15 rfl rfl)
theorem dX2_textByte_16 : decode cX2_textByte 16 = .ok (.invokestatic 170, 3) := dk_184 0 170 (dk_at dksX2_textByte_0 16 rfl rfl)
theorem dX2_textByte_19 : decode cX2_textByte 19 = .ok (.ifCond .ne 7, 3) := dk_154 0 7 (dk_at dksX2_textByte_0 19 rfl rfl)
theorem dX2_textByte_22 : decode cX2_textByte 22 = .ok (.iconst 1, 1) := dk_4 (dk_at dksX2_textByte_0 22 rfl rfl)
theorem dX2_textByte_23 : decode cX2_textByte 23 = .ok (.goto 4, 3) := dk_167 0 4 (dk_at dksX2_textByte_1 0 rfl rfl)
theorem dX2_textByte_26 : decode cX2_textByte 26 = .ok (.iconst 0, 1) := dk_3 (dk_at dksX2_textByte_1 3 rfl rfl)
theorem dX2_textByte_27 : decode cX2_textByte 27 = .ok (.iconst 1, 1) := dk_4 (dk_at dksX2_textByte_1 4 rfl rfl)
theorem dX2_textByte_28 : decode cX2_textByte 28 = .ok (.invokevirtual 37, 3) := dk_182 0 37 (dk_at dksX2_textByte_1 5 rfl rfl)
theorem dX2_textByte_31 : decode cX2_textByte 31 = .ok (.ifCond .eq 7, 3) := dk_153 0 7 (dk_at dksX2_textByte_1 8 rfl rfl)
theorem dX2_textByte_34 : decode cX2_textByte 34 = .ok (.iconst 0, 1) := dk_3 (dk_at dksX2_textByte_1 11 rfl rfl)
theorem dX2_textByte_35 : decode cX2_textByte 35 = .ok (.goto 9, 3) := dk_167 0 9 (dk_at dksX2_textByte_1 12 rfl rfl)
theorem dX2_textByte_38 : decode cX2_textByte 38 = .ok (.aload_n 0, 1) := dk_42 (dk_at dksX2_textByte_1 15 rfl rfl)
theorem dX2_textByte_39 : decode cX2_textByte 39 = .ok (.getfield 27, 3) := dk_180 0 27 (dk_at dksX2_textByte_1 16 rfl rfl)
theorem dX2_textByte_42 : decode cX2_textByte 42 = .ok (.iload_n 1, 1) := dk_27 (dk_at dksX2_textByte_1 19 rfl rfl)
theorem dX2_textByte_43 : decode cX2_textByte 43 = .ok (.iaload, 1) := dk_46 (dk_at dksX2_textByte_1 20 rfl rfl)
theorem dX2_textByte_44 : decode cX2_textByte 44 = .ok (.ireturn, 1) := dk_172 (dk_at dksX2_textByte_1 21 rfl rfl)
abbrev cX2_fill : ByteArray := prog_10_method_115_code
def yX2_fill : MethodName := ⟨RX2, "fill", "(II)I"⟩
def dkwX2_fill_0 : List UInt8 := [42, 27, 28, 182, 1, 33, 153, 0, 5, 3, 172, 42, 182, 1, 61, 42, 27, 28, 182, 0, 193, 172]
abbrev dktX2_fill_0 : List UInt8 := dkwX2_fill_0 ++ []
theorem dksX2_fill_0 : cX2_fill.data.toList.drop 0 = dktX2_fill_0 := by decide +kernel
theorem dX2_fill_0 : decode cX2_fill 0 = .ok (.aload_n 0, 1) := dk_42 (dk_at dksX2_fill_0 0 rfl rfl)
theorem dX2_fill_1 : decode cX2_fill 1 = .ok (.iload_n 1, 1) := dk_27 (dk_at dksX2_fill_0 1 rfl rfl)
theorem dX2_fill_2 : decode cX2_fill 2 = .ok (.iload_n 2, 1) := dk_28 (dk_at dksX2_fill_0 2 rfl rfl)
theorem dX2_fill_3 : decode cX2_fill 3 = .ok (.invokevirtual 289, 3) := dk_182 1 33 (dk_at dksX2_fill_0 3 rfl rfl)
theorem dX2_fill_6 : decode cX2_fill 6 = .ok (.ifCond .eq 5, 3) := dk_153 0 5 (dk_at dksX2_fill_0 6 rfl rfl)
theorem dX2_fill_9 : decode cX2_fill 9 = .ok (.iconst 0, 1) := dk_3 (dk_at dksX2_fill_0 9 rfl rfl)
theorem dX2_fill_10 : decode cX2_fill 10 = .ok (.ireturn, 1) := dk_172 (dk_at dksX2_fill_0 10 rfl rfl)
theorem dX2_fill_11 : decode cX2_fill 11 = .ok (.aload_n 0, 1) := dk_42 (dk_at dksX2_fill_0 11 rfl rfl)
theorem dX2_fill_12 : decode cX2_fill 12 = .ok (.invokevirtual 317, 3) := dk_182 1 61 (dk_at dksX2_fill_0 12 rfl rfl)
theorem dX2_fill_15 : decode cX2_fill 15 = .ok (.aload_n 0, 1) := dk_42 (dk_at dksX2_fill_0 15 rfl rfl)
theorem dX2_fill_16 : decode cX2_fill 16 = .ok (.iload_n 1, 1) := dk_27 (dk_at dksX2_fill_0 16 rfl rfl)
theorem dX2_fill_17 : decode cX2_fill 17 = .ok (.iload_n 2, 1) := dk_28 (dk_at dksX2_fill_0 17 rfl rfl)
theorem dX2_fill_18 : decode cX2_fill 18 = .ok (.invokevirtual 193, 3) := dk_182 0 193 (dk_at dksX2_fill_0 18 rfl rfl)
theorem dX2_fill_21 : decode cX2_fill 21 = .ok (.ireturn, 1) := dk_172 (dk_at dksX2_fill_0 21 rfl rfl)
abbrev cX2_keepsAll : ByteArray := prog_10_method_114_code
def yX2_keepsAll : MethodName := ⟨RX2, "keepsAll", "()V"⟩
def dkwX2_keepsAll_3 : List UInt8 := [42, 89, 180, 0, 253, 4, 96, 181, 0, 253, 177]
abbrev dktX2_keepsAll_3 : List UInt8 := dkwX2_keepsAll_3 ++ []
def dkwX2_keepsAll_2 : List UInt8 := [181, 0, 253, 42, 180, 0, 7, 3, 42, 180, 0, 13, 16, 113, 3, 42, 180, 0, 253, 96, 104, 184, 0, 41]
abbrev dktX2_keepsAll_2 : List UInt8 := dkwX2_keepsAll_2 ++ dktX2_keepsAll_3
def dkwX2_keepsAll_1 : List UInt8 := [180, 0, 13, 27, 16, 113, 96, 46, 79, 132, 1, 1, 167, 255, 231, 42, 89, 180, 0, 253, 4, 100]
abbrev dktX2_keepsAll_1 : List UInt8 := dkwX2_keepsAll_1 ++ dktX2_keepsAll_2
def dkwX2_keepsAll_0 : List UInt8 := [42, 180, 0, 253, 16, 8, 160, 0, 43, 3, 60, 27, 17, 3, 23, 162, 0, 24, 42, 180, 0, 13, 27, 42]
abbrev dktX2_keepsAll_0 : List UInt8 := dkwX2_keepsAll_0 ++ dktX2_keepsAll_1
theorem dksX2_keepsAll_0 : cX2_keepsAll.data.toList.drop 0 = dktX2_keepsAll_0 := by decide +kernel
theorem dksX2_keepsAll_1 : cX2_keepsAll.data.toList.drop 24 = dktX2_keepsAll_1 := dk_seg dksX2_keepsAll_0 24 rfl rfl
theorem dksX2_keepsAll_2 : cX2_keepsAll.data.toList.drop 46 = dktX2_keepsAll_2 := dk_seg dksX2_keepsAll_1 22 rfl rfl
theorem dksX2_keepsAll_3 : cX2_keepsAll.data.toList.drop 70 = dktX2_keepsAll_3 := dk_seg dksX2_keepsAll_2 24 rfl rfl
theorem dX2_keepsAll_0 : decode cX2_keepsAll 0 = .ok (.aload_n 0, 1) := dk_42 (dk_at dksX2_keepsAll_0 0 rfl rfl)
theorem dX2_keepsAll_1 : decode cX2_keepsAll 1 = .ok (.getfield 253, 3) := dk_180 0 253 (dk_at dksX2_keepsAll_0 1 rfl rfl)
theorem dX2_keepsAll_4 : decode cX2_keepsAll 4 = .ok (.bipush 8, 2) := dk_16 8 (dk_at dksX2_keepsAll_0 4 rfl rfl)
theorem dX2_keepsAll_6 : decode cX2_keepsAll 6 = .ok (.if_icmp .ne 43, 3) := dk_160 0 43 (dk_at dksX2_keepsAll_0 6 rfl rfl)
theorem dX2_keepsAll_9 : decode cX2_keepsAll 9 = .ok (.iconst 0, 1) := dk_3 (dk_at dksX2_keepsAll_0 9 rfl rfl)
theorem dX2_keepsAll_10 : decode cX2_keepsAll 10 = .ok (.istore_n 1, 1) := dk_60 (dk_at dksX2_keepsAll_0 10 rfl rfl)
theorem dX2_keepsAll_11 : decode cX2_keepsAll 11 = .ok (.iload_n 1, 1) := dk_27 (dk_at dksX2_keepsAll_0 11 rfl rfl)
theorem dX2_keepsAll_12 : decode cX2_keepsAll 12 = .ok (.sipush 791, 3) := dk_17 3 23 (dk_at dksX2_keepsAll_0 12 rfl rfl)
theorem dX2_keepsAll_15 : decode cX2_keepsAll 15 = .ok (.if_icmp .ge 24, 3) := dk_162 0 24 (dk_at dksX2_keepsAll_0 15 rfl rfl)
theorem dX2_keepsAll_18 : decode cX2_keepsAll 18 = .ok (.aload_n 0, 1) := dk_42 (dk_at dksX2_keepsAll_0 18 rfl rfl)
theorem dX2_keepsAll_19 : decode cX2_keepsAll 19 = .ok (.getfield 13, 3) := dk_180 0 13 (dk_at dksX2_keepsAll_0 19 rfl rfl)
theorem dX2_keepsAll_22 : decode cX2_keepsAll 22 = .ok (.iload_n 1, 1) := dk_27 (dk_at dksX2_keepsAll_0 22 rfl rfl)
theorem dX2_keepsAll_23 : decode cX2_keepsAll 23 = .ok (.aload_n 0, 1) := dk_42 (dk_at dksX2_keepsAll_0 23 rfl rfl)
theorem dX2_keepsAll_24 : decode cX2_keepsAll 24 = .ok (.getfield 13, 3) := dk_180 0 13 (dk_at dksX2_keepsAll_1 0 rfl rfl)
theorem dX2_keepsAll_27 : decode cX2_keepsAll 27 = .ok (.iload_n 1, 1) := dk_27 (dk_at dksX2_keepsAll_1 3 rfl rfl)
theorem dX2_keepsAll_28 : decode cX2_keepsAll 28 = .ok (.bipush 113, 2) := dk_16 113 (dk_at dksX2_keepsAll_1 4 rfl rfl)
theorem dX2_keepsAll_30 : decode cX2_keepsAll 30 = .ok (.iadd, 1) := dk_96 (dk_at dksX2_keepsAll_1 6 rfl rfl)
theorem dX2_keepsAll_31 : decode cX2_keepsAll 31 = .ok (.iaload, 1) := dk_46 (dk_at dksX2_keepsAll_1 7 rfl rfl)
theorem dX2_keepsAll_32 : decode cX2_keepsAll 32 = .ok (.iastore, 1) := dk_79 (dk_at dksX2_keepsAll_1 8 rfl rfl)
theorem dX2_keepsAll_33 : decode cX2_keepsAll 33 = .ok (.iinc 1 1, 3) := dk_132 1 1 (dk_at dksX2_keepsAll_1 9 rfl rfl)
theorem dX2_keepsAll_36 : decode cX2_keepsAll 36 = .ok (.goto (-25), 3) := dk_167 255 231 (dk_at dksX2_keepsAll_1 12 rfl rfl)
theorem dX2_keepsAll_39 : decode cX2_keepsAll 39 = .ok (.aload_n 0, 1) := dk_42 (dk_at dksX2_keepsAll_1 15 rfl rfl)
theorem dX2_keepsAll_40 : decode cX2_keepsAll 40 = .ok (.dup, 1) := dk_89 (dk_at dksX2_keepsAll_1 16 rfl rfl)
theorem dX2_keepsAll_41 : decode cX2_keepsAll 41 = .ok (.getfield 253, 3) := dk_180 0 253 (dk_at dksX2_keepsAll_1 17 rfl rfl)
theorem dX2_keepsAll_44 : decode cX2_keepsAll 44 = .ok (.iconst 1, 1) := dk_4 (dk_at dksX2_keepsAll_1 20 rfl rfl)
theorem dX2_keepsAll_45 : decode cX2_keepsAll 45 = .ok (.isub, 1) := dk_100 (dk_at dksX2_keepsAll_1 21 rfl rfl)
theorem dX2_keepsAll_46 : decode cX2_keepsAll 46 = .ok (.putfield 253, 3) := dk_181 0 253 (dk_at dksX2_keepsAll_2 0 rfl rfl)
theorem dX2_keepsAll_49 : decode cX2_keepsAll 49 = .ok (.aload_n 0, 1) := dk_42 (dk_at dksX2_keepsAll_2 3 rfl rfl)
theorem dX2_keepsAll_50 : decode cX2_keepsAll 50 = .ok (.getfield 7, 3) := dk_180 0 7 (dk_at dksX2_keepsAll_2 4 rfl rfl)
theorem dX2_keepsAll_53 : decode cX2_keepsAll 53 = .ok (.iconst 0, 1) := dk_3 (dk_at dksX2_keepsAll_2 7 rfl rfl)
theorem dX2_keepsAll_54 : decode cX2_keepsAll 54 = .ok (.aload_n 0, 1) := dk_42 (dk_at dksX2_keepsAll_2 8 rfl rfl)
theorem dX2_keepsAll_55 : decode cX2_keepsAll 55 = .ok (.getfield 13, 3) := dk_180 0 13 (dk_at dksX2_keepsAll_2 9 rfl rfl)
theorem dX2_keepsAll_58 : decode cX2_keepsAll 58 = .ok (.bipush 113, 2) := dk_16 113 (dk_at dksX2_keepsAll_2 12 rfl rfl)
theorem dX2_keepsAll_60 : decode cX2_keepsAll 60 = .ok (.iconst 0, 1) := dk_3 (dk_at dksX2_keepsAll_2 14 rfl rfl)
theorem dX2_keepsAll_61 : decode cX2_keepsAll 61 = .ok (.aload_n 0, 1) := dk_42 (dk_at dksX2_keepsAll_2 15 rfl rfl)
theorem dX2_keepsAll_62 : decode cX2_keepsAll 62 = .ok (.getfield 253, 3) := dk_180 0 253 (dk_at dksX2_keepsAll_2 16 rfl rfl)
theorem dX2_keepsAll_65 : decode cX2_keepsAll 65 = .ok (.iadd, 1) := dk_96 (dk_at dksX2_keepsAll_2 19 rfl rfl)
theorem dX2_keepsAll_66 : decode cX2_keepsAll 66 = .ok (.imul, 1) := dk_104 (dk_at dksX2_keepsAll_2 20 rfl rfl)
theorem dX2_keepsAll_67 : decode cX2_keepsAll 67 = .ok (.invokestatic 41, 3) := dk_184 0 41 (dk_at dksX2_keepsAll_2 21 rfl rfl)
theorem dX2_keepsAll_70 : decode cX2_keepsAll 70 = .ok (.aload_n 0, 1) := dk_42 (dk_at dksX2_keepsAll_3 0 rfl rfl)
theorem dX2_keepsAll_71 : decode cX2_keepsAll 71 = .ok (.dup, 1) := dk_89 (dk_at dksX2_keepsAll_3 1 rfl rfl)
theorem dX2_keepsAll_72 : decode cX2_keepsAll 72 = .ok (.getfield 253, 3) := dk_180 0 253 (dk_at dksX2_keepsAll_3 2 rfl rfl)
theorem dX2_keepsAll_75 : decode cX2_keepsAll 75 = .ok (.iconst 1, 1) := dk_4 (dk_at dksX2_keepsAll_3 5 rfl rfl)
theorem dX2_keepsAll_76 : decode cX2_keepsAll 76 = .ok (.iadd, 1) := dk_96 (dk_at dksX2_keepsAll_3 6 rfl rfl)
theorem dX2_keepsAll_77 : decode cX2_keepsAll 77 = .ok (.putfield 253, 3) := dk_181 0 253 (dk_at dksX2_keepsAll_3 7 rfl rfl)
theorem dX2_keepsAll_80 : decode cX2_keepsAll 80 = .ok (.return_, 1) := dk_177 (dk_at dksX2_keepsAll_3 10 rfl rfl)
abbrev cX2_draw : ByteArray := prog_10_method_116_code
def yX2_draw : MethodName := ⟨RX2, "draw", "(I)I"⟩
def dkwX2_draw_1 : List UInt8 := [42, 27, 182, 0, 196, 172]
abbrev dktX2_draw_1 : List UInt8 := dkwX2_draw_1 ++ []
def dkwX2_draw_0 : List UInt8 := [42, 182, 1, 0, 154, 0, 14, 42, 27, 16, 99, 5, 182, 1, 29, 153, 0, 5, 3, 172, 42, 182, 1, 61]
abbrev dktX2_draw_0 : List UInt8 := dkwX2_draw_0 ++ dktX2_draw_1
theorem dksX2_draw_0 : cX2_draw.data.toList.drop 0 = dktX2_draw_0 := by decide +kernel
theorem dksX2_draw_1 : cX2_draw.data.toList.drop 24 = dktX2_draw_1 := dk_seg dksX2_draw_0 24 rfl rfl
theorem dX2_draw_0 : decode cX2_draw 0 = .ok (.aload_n 0, 1) := dk_42 (dk_at dksX2_draw_0 0 rfl rfl)
theorem dX2_draw_1 : decode cX2_draw 1 = .ok (.invokevirtual 256, 3) := dk_182 1 0 (dk_at dksX2_draw_0 1 rfl rfl)
theorem dX2_draw_4 : decode cX2_draw 4 = .ok (.ifCond .ne 14, 3) := dk_154 0 14 (dk_at dksX2_draw_0 4 rfl rfl)
theorem dX2_draw_7 : decode cX2_draw 7 = .ok (.aload_n 0, 1) := dk_42 (dk_at dksX2_draw_0 7 rfl rfl)
theorem dX2_draw_8 : decode cX2_draw 8 = .ok (.iload_n 1, 1) := dk_27 (dk_at dksX2_draw_0 8 rfl rfl)
theorem dX2_draw_9 : decode cX2_draw 9 = .ok (.bipush 99, 2) := dk_16 99 (dk_at dksX2_draw_0 9 rfl rfl)
theorem dX2_draw_11 : decode cX2_draw 11 = .ok (.iconst 2, 1) := dk_5 (dk_at dksX2_draw_0 11 rfl rfl)
theorem dX2_draw_12 : decode cX2_draw 12 = .ok (.invokevirtual 285, 3) := dk_182 1 29 (dk_at dksX2_draw_0 12 rfl rfl)
theorem dX2_draw_15 : decode cX2_draw 15 = .ok (.ifCond .eq 5, 3) := dk_153 0 5 (dk_at dksX2_draw_0 15 rfl rfl)
theorem dX2_draw_18 : decode cX2_draw 18 = .ok (.iconst 0, 1) := dk_3 (dk_at dksX2_draw_0 18 rfl rfl)
theorem dX2_draw_19 : decode cX2_draw 19 = .ok (.ireturn, 1) := dk_172 (dk_at dksX2_draw_0 19 rfl rfl)
theorem dX2_draw_20 : decode cX2_draw 20 = .ok (.aload_n 0, 1) := dk_42 (dk_at dksX2_draw_0 20 rfl rfl)
theorem dX2_draw_21 : decode cX2_draw 21 = .ok (.invokevirtual 317, 3) := dk_182 1 61 (dk_at dksX2_draw_0 21 rfl rfl)
theorem dX2_draw_24 : decode cX2_draw 24 = .ok (.aload_n 0, 1) := dk_42 (dk_at dksX2_draw_1 0 rfl rfl)
theorem dX2_draw_25 : decode cX2_draw 25 = .ok (.iload_n 1, 1) := dk_27 (dk_at dksX2_draw_1 1 rfl rfl)
theorem dX2_draw_26 : decode cX2_draw 26 = .ok (.invokevirtual 196, 3) := dk_182 0 196 (dk_at dksX2_draw_1 2 rfl rfl)
theorem dX2_draw_29 : decode cX2_draw 29 = .ok (.ireturn, 1) := dk_172 (dk_at dksX2_draw_1 5 rfl rfl)
abbrev cX2_empty : ByteArray := prog_10_method_117_code
def yX2_empty : MethodName := ⟨RX2, "empty", "()I"⟩
def dkwX2_empty_1 : List UInt8 := [182, 0, 49, 158, 0, 16, 27, 42, 182, 0, 79, 184, 0, 75, 96, 60, 167, 255, 233, 27, 172]
abbrev dktX2_empty_1 : List UInt8 := dkwX2_empty_1 ++ []
def dkwX2_empty_0 : List UInt8 := [42, 182, 1, 0, 153, 0, 5, 3, 172, 42, 182, 1, 61, 3, 60, 42, 42, 180, 0, 7, 6, 46]
abbrev dktX2_empty_0 : List UInt8 := dkwX2_empty_0 ++ dktX2_empty_1
theorem dksX2_empty_0 : cX2_empty.data.toList.drop 0 = dktX2_empty_0 := by decide +kernel
theorem dksX2_empty_1 : cX2_empty.data.toList.drop 22 = dktX2_empty_1 := dk_seg dksX2_empty_0 22 rfl rfl
theorem dX2_empty_0 : decode cX2_empty 0 = .ok (.aload_n 0, 1) := dk_42 (dk_at dksX2_empty_0 0 rfl rfl)
theorem dX2_empty_1 : decode cX2_empty 1 = .ok (.invokevirtual 256, 3) := dk_182 1 0 (dk_at dksX2_empty_0 1 rfl rfl)
theorem dX2_empty_4 : decode cX2_empty 4 = .ok (.ifCond .eq 5, 3) := dk_153 0 5 (dk_at dksX2_empty_0 4 rfl rfl)
theorem dX2_empty_7 : decode cX2_empty 7 = .ok (.iconst 0, 1) := dk_3 (dk_at dksX2_empty_0 7 rfl rfl)
theorem dX2_empty_8 : decode cX2_empty 8 = .ok (.ireturn, 1) := dk_172 (dk_at dksX2_empty_0 8 rfl rfl)
theorem dX2_empty_9 : decode cX2_empty 9 = .ok (.aload_n 0, 1) := dk_42 (dk_at dksX2_empty_0 9 rfl rfl)
theorem dX2_empty_10 : decode cX2_empty 10 = .ok (.invokevirtual 317, 3) := dk_182 1 61 (dk_at dksX2_empty_0 10 rfl rfl)
theorem dX2_empty_13 : decode cX2_empty 13 = .ok (.iconst 0, 1) := dk_3 (dk_at dksX2_empty_0 13 rfl rfl)
theorem dX2_empty_14 : decode cX2_empty 14 = .ok (.istore_n 1, 1) := dk_60 (dk_at dksX2_empty_0 14 rfl rfl)
theorem dX2_empty_15 : decode cX2_empty 15 = .ok (.aload_n 0, 1) := dk_42 (dk_at dksX2_empty_0 15 rfl rfl)
theorem dX2_empty_16 : decode cX2_empty 16 = .ok (.aload_n 0, 1) := dk_42 (dk_at dksX2_empty_0 16 rfl rfl)
theorem dX2_empty_17 : decode cX2_empty 17 = .ok (.getfield 7, 3) := dk_180 0 7 (dk_at dksX2_empty_0 17 rfl rfl)
theorem dX2_empty_20 : decode cX2_empty 20 = .ok (.iconst 3, 1) := dk_6 (dk_at dksX2_empty_0 20 rfl rfl)
theorem dX2_empty_21 : decode cX2_empty 21 = .ok (.iaload, 1) := dk_46 (dk_at dksX2_empty_0 21 rfl rfl)
theorem dX2_empty_22 : decode cX2_empty 22 = .ok (.invokevirtual 49, 3) := dk_182 0 49 (dk_at dksX2_empty_1 0 rfl rfl)
theorem dX2_empty_25 : decode cX2_empty 25 = .ok (.ifCond .le 16, 3) := dk_158 0 16 (dk_at dksX2_empty_1 3 rfl rfl)
theorem dX2_empty_28 : decode cX2_empty 28 = .ok (.iload_n 1, 1) := dk_27 (dk_at dksX2_empty_1 6 rfl rfl)
theorem dX2_empty_29 : decode cX2_empty 29 = .ok (.aload_n 0, 1) := dk_42 (dk_at dksX2_empty_1 7 rfl rfl)
theorem dX2_empty_30 : decode cX2_empty 30 = .ok (.invokevirtual 79, 3) := dk_182 0 79 (dk_at dksX2_empty_1 8 rfl rfl)
theorem dX2_empty_33 : decode cX2_empty 33 = .ok (.invokestatic 75, 3) := dk_184 0 75 (dk_at dksX2_empty_1 11 rfl rfl)
theorem dX2_empty_36 : decode cX2_empty 36 = .ok (.iadd, 1) := dk_96 (dk_at dksX2_empty_1 14 rfl rfl)
theorem dX2_empty_37 : decode cX2_empty 37 = .ok (.istore_n 1, 1) := dk_60 (dk_at dksX2_empty_1 15 rfl rfl)
theorem dX2_empty_38 : decode cX2_empty 38 = .ok (.goto (-23), 3) := dk_167 255 233 (dk_at dksX2_empty_1 16 rfl rfl)
theorem dX2_empty_41 : decode cX2_empty 41 = .ok (.iload_n 1, 1) := dk_27 (dk_at dksX2_empty_1 19 rfl rfl)
theorem dX2_empty_42 : decode cX2_empty 42 = .ok (.ireturn, 1) := dk_172 (dk_at dksX2_empty_1 20 rfl rfl)
abbrev cX2_level : ByteArray := prog_10_method_118_code
def yX2_level : MethodName := ⟨RX2, "level", "(Z)I"⟩
def dkwX2_level_5 : List UInt8 := [167, 255, 162, 29, 172]
abbrev dktX2_level_5 : List UInt8 := dkwX2_level_5 ++ []
def dkwX2_level_4 : List UInt8 := [167, 0, 4, 3, 184, 0, 75, 96, 62, 42, 180, 0, 7, 16, 22, 21, 4, 96, 21, 6, 79, 132, 4, 1]
abbrev dktX2_level_4 : List UInt8 := dkwX2_level_4 ++ dktX2_level_5
def dkwX2_level_3 : List UInt8 := [167, 0, 4, 3, 184, 0, 75, 96, 54, 6, 29, 21, 6, 42, 21, 4, 182, 0, 49, 159, 0, 7, 4]
abbrev dktX2_level_3 : List UInt8 := dkwX2_level_3 ++ dktX2_level_4
def dkwX2_level_2 : List UInt8 := [21, 4, 100, 54, 5, 28, 42, 182, 0, 45, 108, 21, 5, 28, 42, 182, 0, 45, 112, 162, 0, 7, 4]
abbrev dktX2_level_2 : List UInt8 := dkwX2_level_2 ++ dktX2_level_3
def dkwX2_level_1 : List UInt8 := [21, 4, 42, 182, 0, 45, 162, 0, 91, 27, 153, 0, 8, 21, 4, 167, 0, 12, 42, 182, 0, 45, 4, 100]
abbrev dktX2_level_1 : List UInt8 := dkwX2_level_1 ++ dktX2_level_2
def dkwX2_level_0 : List UInt8 := [42, 182, 1, 0, 153, 0, 5, 3, 172, 42, 182, 1, 61, 42, 182, 1, 10, 61, 3, 62, 3, 54, 4]
abbrev dktX2_level_0 : List UInt8 := dkwX2_level_0 ++ dktX2_level_1
theorem dksX2_level_0 : cX2_level.data.toList.drop 0 = dktX2_level_0 := by decide +kernel
theorem dksX2_level_1 : cX2_level.data.toList.drop 23 = dktX2_level_1 := dk_seg dksX2_level_0 23 rfl rfl
theorem dksX2_level_2 : cX2_level.data.toList.drop 47 = dktX2_level_2 := dk_seg dksX2_level_1 24 rfl rfl
theorem dksX2_level_3 : cX2_level.data.toList.drop 70 = dktX2_level_3 := dk_seg dksX2_level_2 23 rfl rfl
theorem dksX2_level_4 : cX2_level.data.toList.drop 93 = dktX2_level_4 := dk_seg dksX2_level_3 23 rfl rfl
theorem dksX2_level_5 : cX2_level.data.toList.drop 117 = dktX2_level_5 := dk_seg dksX2_level_4 24 rfl rfl
theorem dX2_level_0 : decode cX2_level 0 = .ok (.aload_n 0, 1) := dk_42 (dk_at dksX2_level_0 0 rfl rfl)
theorem dX2_level_1 : decode cX2_level 1 = .ok (.invokevirtual 256, 3) := dk_182 1 0 (dk_at dksX2_level_0 1 rfl rfl)
theorem dX2_level_4 : decode cX2_level 4 = .ok (.ifCond .eq 5, 3) := dk_153 0 5 (dk_at dksX2_level_0 4 rfl rfl)
theorem dX2_level_7 : decode cX2_level 7 = .ok (.iconst 0, 1) := dk_3 (dk_at dksX2_level_0 7 rfl rfl)
theorem dX2_level_8 : decode cX2_level 8 = .ok (.ireturn, 1) := dk_172 (dk_at dksX2_level_0 8 rfl rfl)
theorem dX2_level_9 : decode cX2_level 9 = .ok (.aload_n 0, 1) := dk_42 (dk_at dksX2_level_0 9 rfl rfl)
theorem dX2_level_10 : decode cX2_level 10 = .ok (.invokevirtual 317, 3) := dk_182 1 61 (dk_at dksX2_level_0 10 rfl rfl)
theorem dX2_level_13 : decode cX2_level 13 = .ok (.aload_n 0, 1) := dk_42 (dk_at dksX2_level_0 13 rfl rfl)
theorem dX2_level_14 : decode cX2_level 14 = .ok (.invokevirtual 266, 3) := dk_182 1 10 (dk_at dksX2_level_0 14 rfl rfl)
theorem dX2_level_17 : decode cX2_level 17 = .ok (.istore_n 2, 1) := dk_61 (dk_at dksX2_level_0 17 rfl rfl)
theorem dX2_level_18 : decode cX2_level 18 = .ok (.iconst 0, 1) := dk_3 (dk_at dksX2_level_0 18 rfl rfl)
theorem dX2_level_19 : decode cX2_level 19 = .ok (.istore_n 3, 1) := dk_62 (dk_at dksX2_level_0 19 rfl rfl)
theorem dX2_level_20 : decode cX2_level 20 = .ok (.iconst 0, 1) := dk_3 (dk_at dksX2_level_0 20 rfl rfl)
theorem dX2_level_21 : decode cX2_level 21 = .ok (.istore 4, 2) := dk_54 4 (dk_at dksX2_level_0 21 rfl rfl)
theorem dX2_level_23 : decode cX2_level 23 = .ok (.iload 4, 2) := dk_21 4 (dk_at dksX2_level_1 0 rfl rfl)
theorem dX2_level_25 : decode cX2_level 25 = .ok (.aload_n 0, 1) := dk_42 (dk_at dksX2_level_1 2 rfl rfl)
theorem dX2_level_26 : decode cX2_level 26 = .ok (.invokevirtual 45, 3) := dk_182 0 45 (dk_at dksX2_level_1 3 rfl rfl)
theorem dX2_level_29 : decode cX2_level 29 = .ok (.if_icmp .ge 91, 3) := dk_162 0 91 (dk_at dksX2_level_1 6 rfl rfl)
theorem dX2_level_32 : decode cX2_level 32 = .ok (.iload_n 1, 1) := dk_27 (dk_at dksX2_level_1 9 rfl rfl)
theorem dX2_level_33 : decode cX2_level 33 = .ok (.ifCond .eq 8, 3) := dk_153 0 8 (dk_at dksX2_level_1 10 rfl rfl)
theorem dX2_level_36 : decode cX2_level 36 = .ok (.iload 4, 2) := dk_21 4 (dk_at dksX2_level_1 13 rfl rfl)
theorem dX2_level_38 : decode cX2_level 38 = .ok (.goto 12, 3) := dk_167 0 12 (dk_at dksX2_level_1 15 rfl rfl)
theorem dX2_level_41 : decode cX2_level 41 = .ok (.aload_n 0, 1) := dk_42 (dk_at dksX2_level_1 18 rfl rfl)
theorem dX2_level_42 : decode cX2_level 42 = .ok (.invokevirtual 45, 3) := dk_182 0 45 (dk_at dksX2_level_1 19 rfl rfl)
theorem dX2_level_45 : decode cX2_level 45 = .ok (.iconst 1, 1) := dk_4 (dk_at dksX2_level_1 22 rfl rfl)
theorem dX2_level_46 : decode cX2_level 46 = .ok (.isub, 1) := dk_100 (dk_at dksX2_level_1 23 rfl rfl)
theorem dX2_level_47 : decode cX2_level 47 = .ok (.iload 4, 2) := dk_21 4 (dk_at dksX2_level_2 0 rfl rfl)
theorem dX2_level_49 : decode cX2_level 49 = .ok (.isub, 1) := dk_100 (dk_at dksX2_level_2 2 rfl rfl)
theorem dX2_level_50 : decode cX2_level 50 = .ok (.istore 5, 2) := dk_54 5 (dk_at dksX2_level_2 3 rfl rfl)
theorem dX2_level_52 : decode cX2_level 52 = .ok (.iload_n 2, 1) := dk_28 (dk_at dksX2_level_2 5 rfl rfl)
theorem dX2_level_53 : decode cX2_level 53 = .ok (.aload_n 0, 1) := dk_42 (dk_at dksX2_level_2 6 rfl rfl)
theorem dX2_level_54 : decode cX2_level 54 = .ok (.invokevirtual 45, 3) := dk_182 0 45 (dk_at dksX2_level_2 7 rfl rfl)
theorem dX2_level_57 : decode cX2_level 57 = .ok (.idiv, 1) := dk_108 (dk_at dksX2_level_2 10 rfl rfl)
theorem dX2_level_58 : decode cX2_level 58 = .ok (.iload 5, 2) := dk_21 5 (dk_at dksX2_level_2 11 rfl rfl)
theorem dX2_level_60 : decode cX2_level 60 = .ok (.iload_n 2, 1) := dk_28 (dk_at dksX2_level_2 13 rfl rfl)
theorem dX2_level_61 : decode cX2_level 61 = .ok (.aload_n 0, 1) := dk_42 (dk_at dksX2_level_2 14 rfl rfl)
theorem dX2_level_62 : decode cX2_level 62 = .ok (.invokevirtual 45, 3) := dk_182 0 45 (dk_at dksX2_level_2 15 rfl rfl)
theorem dX2_level_65 : decode cX2_level 65 = .ok (.irem, 1) := dk_112 (dk_at dksX2_level_2 18 rfl rfl)
theorem dX2_level_66 : decode cX2_level 66 = .ok (.if_icmp .ge 7, 3) := dk_162 0 7 (dk_at dksX2_level_2 19 rfl rfl)
theorem dX2_level_69 : decode cX2_level 69 = .ok (.iconst 1, 1) := dk_4 (dk_at dksX2_level_2 22 rfl rfl)
theorem dX2_level_70 : decode cX2_level 70 = .ok (.goto 4, 3) := dk_167 0 4 (dk_at dksX2_level_3 0 rfl rfl)
theorem dX2_level_73 : decode cX2_level 73 = .ok (.iconst 0, 1) := dk_3 (dk_at dksX2_level_3 3 rfl rfl)
theorem dX2_level_74 : decode cX2_level 74 = .ok (.invokestatic 75, 3) := dk_184 0 75 (dk_at dksX2_level_3 4 rfl rfl)
theorem dX2_level_77 : decode cX2_level 77 = .ok (.iadd, 1) := dk_96 (dk_at dksX2_level_3 7 rfl rfl)
theorem dX2_level_78 : decode cX2_level 78 = .ok (.istore 6, 2) := dk_54 6 (dk_at dksX2_level_3 8 rfl rfl)
theorem dX2_level_80 : decode cX2_level 80 = .ok (.iload_n 3, 1) := dk_29 (dk_at dksX2_level_3 10 rfl rfl)
theorem dX2_level_81 : decode cX2_level 81 = .ok (.iload 6, 2) := dk_21 6 (dk_at dksX2_level_3 11 rfl rfl)
theorem dX2_level_83 : decode cX2_level 83 = .ok (.aload_n 0, 1) := dk_42 (dk_at dksX2_level_3 13 rfl rfl)
theorem dX2_level_84 : decode cX2_level 84 = .ok (.iload 4, 2) := dk_21 4 (dk_at dksX2_level_3 14 rfl rfl)
theorem dX2_level_86 : decode cX2_level 86 = .ok (.invokevirtual 49, 3) := dk_182 0 49 (dk_at dksX2_level_3 16 rfl rfl)
theorem dX2_level_89 : decode cX2_level 89 = .ok (.if_icmp .eq 7, 3) := dk_159 0 7 (dk_at dksX2_level_3 19 rfl rfl)
theorem dX2_level_92 : decode cX2_level 92 = .ok (.iconst 1, 1) := dk_4 (dk_at dksX2_level_3 22 rfl rfl)
theorem dX2_level_93 : decode cX2_level 93 = .ok (.goto 4, 3) := dk_167 0 4 (dk_at dksX2_level_4 0 rfl rfl)
theorem dX2_level_96 : decode cX2_level 96 = .ok (.iconst 0, 1) := dk_3 (dk_at dksX2_level_4 3 rfl rfl)
theorem dX2_level_97 : decode cX2_level 97 = .ok (.invokestatic 75, 3) := dk_184 0 75 (dk_at dksX2_level_4 4 rfl rfl)
theorem dX2_level_100 : decode cX2_level 100 = .ok (.iadd, 1) := dk_96 (dk_at dksX2_level_4 7 rfl rfl)
theorem dX2_level_101 : decode cX2_level 101 = .ok (.istore_n 3, 1) := dk_62 (dk_at dksX2_level_4 8 rfl rfl)
theorem dX2_level_102 : decode cX2_level 102 = .ok (.aload_n 0, 1) := dk_42 (dk_at dksX2_level_4 9 rfl rfl)
theorem dX2_level_103 : decode cX2_level 103 = .ok (.getfield 7, 3) := dk_180 0 7 (dk_at dksX2_level_4 10 rfl rfl)
theorem dX2_level_106 : decode cX2_level 106 = .ok (.bipush 22, 2) := dk_16 22 (dk_at dksX2_level_4 13 rfl rfl)
theorem dX2_level_108 : decode cX2_level 108 = .ok (.iload 4, 2) := dk_21 4 (dk_at dksX2_level_4 15 rfl rfl)
theorem dX2_level_110 : decode cX2_level 110 = .ok (.iadd, 1) := dk_96 (dk_at dksX2_level_4 17 rfl rfl)
theorem dX2_level_111 : decode cX2_level 111 = .ok (.iload 6, 2) := dk_21 6 (dk_at dksX2_level_4 18 rfl rfl)
theorem dX2_level_113 : decode cX2_level 113 = .ok (.iastore, 1) := dk_79 (dk_at dksX2_level_4 20 rfl rfl)
theorem dX2_level_114 : decode cX2_level 114 = .ok (.iinc 4 1, 3) := dk_132 4 1 (dk_at dksX2_level_4 21 rfl rfl)
theorem dX2_level_117 : decode cX2_level 117 = .ok (.goto (-94), 3) := dk_167 255 162 (dk_at dksX2_level_5 0 rfl rfl)
theorem dX2_level_120 : decode cX2_level 120 = .ok (.iload_n 3, 1) := dk_29 (dk_at dksX2_level_5 3 rfl rfl)
theorem dX2_level_121 : decode cX2_level 121 = .ok (.ireturn, 1) := dk_172 (dk_at dksX2_level_5 4 rfl rfl)
abbrev cX2_ping : ByteArray := prog_10_method_119_code
def yX2_ping : MethodName := ⟨RX2, "ping", "()I"⟩
def dkwX2_ping_1 : List UInt8 := [172]
abbrev dktX2_ping_1 : List UInt8 := dkwX2_ping_1 ++ []
def dkwX2_ping_0 : List UInt8 := [42, 182, 1, 0, 153, 0, 5, 3, 172, 42, 182, 1, 61, 42, 182, 0, 227, 42, 180, 0, 7, 16, 10, 46]
abbrev dktX2_ping_0 : List UInt8 := dkwX2_ping_0 ++ dktX2_ping_1
theorem dksX2_ping_0 : cX2_ping.data.toList.drop 0 = dktX2_ping_0 := by decide +kernel
theorem dksX2_ping_1 : cX2_ping.data.toList.drop 24 = dktX2_ping_1 := dk_seg dksX2_ping_0 24 rfl rfl
theorem dX2_ping_0 : decode cX2_ping 0 = .ok (.aload_n 0, 1) := dk_42 (dk_at dksX2_ping_0 0 rfl rfl)
theorem dX2_ping_1 : decode cX2_ping 1 = .ok (.invokevirtual 256, 3) := dk_182 1 0 (dk_at dksX2_ping_0 1 rfl rfl)
theorem dX2_ping_4 : decode cX2_ping 4 = .ok (.ifCond .eq 5, 3) := dk_153 0 5 (dk_at dksX2_ping_0 4 rfl rfl)
theorem dX2_ping_7 : decode cX2_ping 7 = .ok (.iconst 0, 1) := dk_3 (dk_at dksX2_ping_0 7 rfl rfl)
theorem dX2_ping_8 : decode cX2_ping 8 = .ok (.ireturn, 1) := dk_172 (dk_at dksX2_ping_0 8 rfl rfl)
theorem dX2_ping_9 : decode cX2_ping 9 = .ok (.aload_n 0, 1) := dk_42 (dk_at dksX2_ping_0 9 rfl rfl)
theorem dX2_ping_10 : decode cX2_ping 10 = .ok (.invokevirtual 317, 3) := dk_182 1 61 (dk_at dksX2_ping_0 10 rfl rfl)
theorem dX2_ping_13 : decode cX2_ping 13 = .ok (.aload_n 0, 1) := dk_42 (dk_at dksX2_ping_0 13 rfl rfl)
theorem dX2_ping_14 : decode cX2_ping 14 = .ok (.invokevirtual 227, 3) := dk_182 0 227 (dk_at dksX2_ping_0 14 rfl rfl)
theorem dX2_ping_17 : decode cX2_ping 17 = .ok (.aload_n 0, 1) := dk_42 (dk_at dksX2_ping_0 17 rfl rfl)
theorem dX2_ping_18 : decode cX2_ping 18 = .ok (.getfield 7, 3) := dk_180 0 7 (dk_at dksX2_ping_0 18 rfl rfl)
theorem dX2_ping_21 : decode cX2_ping 21 = .ok (.bipush 10, 2) := dk_16 10 (dk_at dksX2_ping_0 21 rfl rfl)
theorem dX2_ping_23 : decode cX2_ping 23 = .ok (.iaload, 1) := dk_46 (dk_at dksX2_ping_0 23 rfl rfl)
theorem dX2_ping_24 : decode cX2_ping 24 = .ok (.ireturn, 1) := dk_172 (dk_at dksX2_ping_1 0 rfl rfl)
abbrev cX2_learn : ByteArray := prog_10_method_120_code
def yX2_learn : MethodName := ⟨RX2, "learn", "(I)I"⟩
def dkwX2_learn_0 : List UInt8 := [42, 27, 182, 1, 43, 153, 0, 5, 3, 172, 42, 182, 1, 61, 42, 27, 182, 0, 232, 172]
abbrev dktX2_learn_0 : List UInt8 := dkwX2_learn_0 ++ []
theorem dksX2_learn_0 : cX2_learn.data.toList.drop 0 = dktX2_learn_0 := by decide +kernel
theorem dX2_learn_0 : decode cX2_learn 0 = .ok (.aload_n 0, 1) := dk_42 (dk_at dksX2_learn_0 0 rfl rfl)
theorem dX2_learn_1 : decode cX2_learn 1 = .ok (.iload_n 1, 1) := dk_27 (dk_at dksX2_learn_0 1 rfl rfl)
theorem dX2_learn_2 : decode cX2_learn 2 = .ok (.invokevirtual 299, 3) := dk_182 1 43 (dk_at dksX2_learn_0 2 rfl rfl)
theorem dX2_learn_5 : decode cX2_learn 5 = .ok (.ifCond .eq 5, 3) := dk_153 0 5 (dk_at dksX2_learn_0 5 rfl rfl)
theorem dX2_learn_8 : decode cX2_learn 8 = .ok (.iconst 0, 1) := dk_3 (dk_at dksX2_learn_0 8 rfl rfl)
theorem dX2_learn_9 : decode cX2_learn 9 = .ok (.ireturn, 1) := dk_172 (dk_at dksX2_learn_0 9 rfl rfl)
theorem dX2_learn_10 : decode cX2_learn 10 = .ok (.aload_n 0, 1) := dk_42 (dk_at dksX2_learn_0 10 rfl rfl)
theorem dX2_learn_11 : decode cX2_learn 11 = .ok (.invokevirtual 317, 3) := dk_182 1 61 (dk_at dksX2_learn_0 11 rfl rfl)
theorem dX2_learn_14 : decode cX2_learn 14 = .ok (.aload_n 0, 1) := dk_42 (dk_at dksX2_learn_0 14 rfl rfl)
theorem dX2_learn_15 : decode cX2_learn 15 = .ok (.iload_n 1, 1) := dk_27 (dk_at dksX2_learn_0 15 rfl rfl)
theorem dX2_learn_16 : decode cX2_learn 16 = .ok (.invokevirtual 232, 3) := dk_182 0 232 (dk_at dksX2_learn_0 16 rfl rfl)
theorem dX2_learn_19 : decode cX2_learn 19 = .ok (.ireturn, 1) := dk_172 (dk_at dksX2_learn_0 19 rfl rfl)
abbrev cX2_forget : ByteArray := prog_10_method_121_code
def yX2_forget : MethodName := ⟨RX2, "forget", "()I"⟩
def dkwX2_forget_2 : List UInt8 := [96, 60, 42, 180, 0, 7, 16, 52, 28, 96, 3, 79, 132, 2, 1, 167, 255, 212, 27, 172]
abbrev dktX2_forget_2 : List UInt8 := dkwX2_forget_2 ++ []
def dkwX2_forget_1 : List UInt8 := [163, 0, 42, 27, 42, 180, 0, 7, 16, 52, 28, 96, 46, 153, 0, 7, 4, 167, 0, 4, 3, 184, 0, 75]
abbrev dktX2_forget_1 : List UInt8 := dkwX2_forget_1 ++ dktX2_forget_2
def dkwX2_forget_0 : List UInt8 := [42, 182, 1, 0, 153, 0, 5, 3, 172, 42, 182, 1, 61, 3, 60, 3, 61, 28, 42, 182, 0, 60]
abbrev dktX2_forget_0 : List UInt8 := dkwX2_forget_0 ++ dktX2_forget_1
theorem dksX2_forget_0 : cX2_forget.data.toList.drop 0 = dktX2_forget_0 := by decide +kernel
theorem dksX2_forget_1 : cX2_forget.data.toList.drop 22 = dktX2_forget_1 := dk_seg dksX2_forget_0 22 rfl rfl
theorem dksX2_forget_2 : cX2_forget.data.toList.drop 46 = dktX2_forget_2 := dk_seg dksX2_forget_1 24 rfl rfl
theorem dX2_forget_0 : decode cX2_forget 0 = .ok (.aload_n 0, 1) := dk_42 (dk_at dksX2_forget_0 0 rfl rfl)
theorem dX2_forget_1 : decode cX2_forget 1 = .ok (.invokevirtual 256, 3) := dk_182 1 0 (dk_at dksX2_forget_0 1 rfl rfl)
theorem dX2_forget_4 : decode cX2_forget 4 = .ok (.ifCond .eq 5, 3) := dk_153 0 5 (dk_at dksX2_forget_0 4 rfl rfl)
theorem dX2_forget_7 : decode cX2_forget 7 = .ok (.iconst 0, 1) := dk_3 (dk_at dksX2_forget_0 7 rfl rfl)
theorem dX2_forget_8 : decode cX2_forget 8 = .ok (.ireturn, 1) := dk_172 (dk_at dksX2_forget_0 8 rfl rfl)
theorem dX2_forget_9 : decode cX2_forget 9 = .ok (.aload_n 0, 1) := dk_42 (dk_at dksX2_forget_0 9 rfl rfl)
theorem dX2_forget_10 : decode cX2_forget 10 = .ok (.invokevirtual 317, 3) := dk_182 1 61 (dk_at dksX2_forget_0 10 rfl rfl)
theorem dX2_forget_13 : decode cX2_forget 13 = .ok (.iconst 0, 1) := dk_3 (dk_at dksX2_forget_0 13 rfl rfl)
theorem dX2_forget_14 : decode cX2_forget 14 = .ok (.istore_n 1, 1) := dk_60 (dk_at dksX2_forget_0 14 rfl rfl)
theorem dX2_forget_15 : decode cX2_forget 15 = .ok (.iconst 0, 1) := dk_3 (dk_at dksX2_forget_0 15 rfl rfl)
theorem dX2_forget_16 : decode cX2_forget 16 = .ok (.istore_n 2, 1) := dk_61 (dk_at dksX2_forget_0 16 rfl rfl)
theorem dX2_forget_17 : decode cX2_forget 17 = .ok (.iload_n 2, 1) := dk_28 (dk_at dksX2_forget_0 17 rfl rfl)
theorem dX2_forget_18 : decode cX2_forget 18 = .ok (.aload_n 0, 1) := dk_42 (dk_at dksX2_forget_0 18 rfl rfl)
theorem dX2_forget_19 : decode cX2_forget 19 = .ok (.invokevirtual 60, 3) := dk_182 0 60 (dk_at dksX2_forget_0 19 rfl rfl)
theorem dX2_forget_22 : decode cX2_forget 22 = .ok (.if_icmp .gt 42, 3) := dk_163 0 42 (dk_at dksX2_forget_1 0 rfl rfl)
theorem dX2_forget_25 : decode cX2_forget 25 = .ok (.iload_n 1, 1) := dk_27 (dk_at dksX2_forget_1 3 rfl rfl)
theorem dX2_forget_26 : decode cX2_forget 26 = .ok (.aload_n 0, 1) := dk_42 (dk_at dksX2_forget_1 4 rfl rfl)
theorem dX2_forget_27 : decode cX2_forget 27 = .ok (.getfield 7, 3) := dk_180 0 7 (dk_at dksX2_forget_1 5 rfl rfl)
theorem dX2_forget_30 : decode cX2_forget 30 = .ok (.bipush 52, 2) := dk_16 52 (dk_at dksX2_forget_1 8 rfl rfl)
theorem dX2_forget_32 : decode cX2_forget 32 = .ok (.iload_n 2, 1) := dk_28 (dk_at dksX2_forget_1 10 rfl rfl)
theorem dX2_forget_33 : decode cX2_forget 33 = .ok (.iadd, 1) := dk_96 (dk_at dksX2_forget_1 11 rfl rfl)
theorem dX2_forget_34 : decode cX2_forget 34 = .ok (.iaload, 1) := dk_46 (dk_at dksX2_forget_1 12 rfl rfl)
theorem dX2_forget_35 : decode cX2_forget 35 = .ok (.ifCond .eq 7, 3) := dk_153 0 7 (dk_at dksX2_forget_1 13 rfl rfl)
theorem dX2_forget_38 : decode cX2_forget 38 = .ok (.iconst 1, 1) := dk_4 (dk_at dksX2_forget_1 16 rfl rfl)
theorem dX2_forget_39 : decode cX2_forget 39 = .ok (.goto 4, 3) := dk_167 0 4 (dk_at dksX2_forget_1 17 rfl rfl)
theorem dX2_forget_42 : decode cX2_forget 42 = .ok (.iconst 0, 1) := dk_3 (dk_at dksX2_forget_1 20 rfl rfl)
theorem dX2_forget_43 : decode cX2_forget 43 = .ok (.invokestatic 75, 3) := dk_184 0 75 (dk_at dksX2_forget_1 21 rfl rfl)
theorem dX2_forget_46 : decode cX2_forget 46 = .ok (.iadd, 1) := dk_96 (dk_at dksX2_forget_2 0 rfl rfl)
theorem dX2_forget_47 : decode cX2_forget 47 = .ok (.istore_n 1, 1) := dk_60 (dk_at dksX2_forget_2 1 rfl rfl)
theorem dX2_forget_48 : decode cX2_forget 48 = .ok (.aload_n 0, 1) := dk_42 (dk_at dksX2_forget_2 2 rfl rfl)
theorem dX2_forget_49 : decode cX2_forget 49 = .ok (.getfield 7, 3) := dk_180 0 7 (dk_at dksX2_forget_2 3 rfl rfl)
theorem dX2_forget_52 : decode cX2_forget 52 = .ok (.bipush 52, 2) := dk_16 52 (dk_at dksX2_forget_2 6 rfl rfl)
theorem dX2_forget_54 : decode cX2_forget 54 = .ok (.iload_n 2, 1) := dk_28 (dk_at dksX2_forget_2 8 rfl rfl)
theorem dX2_forget_55 : decode cX2_forget 55 = .ok (.iadd, 1) := dk_96 (dk_at dksX2_forget_2 9 rfl rfl)
theorem dX2_forget_56 : decode cX2_forget 56 = .ok (.iconst 0, 1) := dk_3 (dk_at dksX2_forget_2 10 rfl rfl)
theorem dX2_forget_57 : decode cX2_forget 57 = .ok (.iastore, 1) := dk_79 (dk_at dksX2_forget_2 11 rfl rfl)
theorem dX2_forget_58 : decode cX2_forget 58 = .ok (.iinc 2 1, 3) := dk_132 2 1 (dk_at dksX2_forget_2 12 rfl rfl)
theorem dX2_forget_61 : decode cX2_forget 61 = .ok (.goto (-44), 3) := dk_167 255 212 (dk_at dksX2_forget_2 15 rfl rfl)
theorem dX2_forget_64 : decode cX2_forget 64 = .ok (.iload_n 1, 1) := dk_27 (dk_at dksX2_forget_2 18 rfl rfl)
theorem dX2_forget_65 : decode cX2_forget 65 = .ok (.ireturn, 1) := dk_172 (dk_at dksX2_forget_2 19 rfl rfl)
abbrev cX2_waits : ByteArray := prog_10_method_122_code
def yX2_waits : MethodName := ⟨RX2, "waits", "(I)I"⟩
def dkwX2_waits_2 : List UInt8 := [16, 9, 46, 172]
abbrev dktX2_waits_2 : List UInt8 := dkwX2_waits_2 ++ []
def dkwX2_waits_1 : List UInt8 := [42, 180, 0, 7, 16, 9, 3, 42, 180, 0, 7, 16, 9, 46, 27, 100, 184, 0, 116, 79, 42, 180, 0, 7]
abbrev dktX2_waits_1 : List UInt8 := dkwX2_waits_1 ++ dktX2_waits_2
def dkwX2_waits_0 : List UInt8 := [42, 182, 1, 0, 154, 0, 14, 42, 27, 16, 99, 5, 182, 1, 29, 153, 0, 5, 3, 172, 42, 182, 1, 61]
abbrev dktX2_waits_0 : List UInt8 := dkwX2_waits_0 ++ dktX2_waits_1
theorem dksX2_waits_0 : cX2_waits.data.toList.drop 0 = dktX2_waits_0 := by decide +kernel
theorem dksX2_waits_1 : cX2_waits.data.toList.drop 24 = dktX2_waits_1 := dk_seg dksX2_waits_0 24 rfl rfl
theorem dksX2_waits_2 : cX2_waits.data.toList.drop 48 = dktX2_waits_2 := dk_seg dksX2_waits_1 24 rfl rfl
theorem dX2_waits_0 : decode cX2_waits 0 = .ok (.aload_n 0, 1) := dk_42 (dk_at dksX2_waits_0 0 rfl rfl)
theorem dX2_waits_1 : decode cX2_waits 1 = .ok (.invokevirtual 256, 3) := dk_182 1 0 (dk_at dksX2_waits_0 1 rfl rfl)
theorem dX2_waits_4 : decode cX2_waits 4 = .ok (.ifCond .ne 14, 3) := dk_154 0 14 (dk_at dksX2_waits_0 4 rfl rfl)
theorem dX2_waits_7 : decode cX2_waits 7 = .ok (.aload_n 0, 1) := dk_42 (dk_at dksX2_waits_0 7 rfl rfl)
theorem dX2_waits_8 : decode cX2_waits 8 = .ok (.iload_n 1, 1) := dk_27 (dk_at dksX2_waits_0 8 rfl rfl)
theorem dX2_waits_9 : decode cX2_waits 9 = .ok (.bipush 99, 2) := dk_16 99 (dk_at dksX2_waits_0 9 rfl rfl)
theorem dX2_waits_11 : decode cX2_waits 11 = .ok (.iconst 2, 1) := dk_5 (dk_at dksX2_waits_0 11 rfl rfl)
theorem dX2_waits_12 : decode cX2_waits 12 = .ok (.invokevirtual 285, 3) := dk_182 1 29 (dk_at dksX2_waits_0 12 rfl rfl)
theorem dX2_waits_15 : decode cX2_waits 15 = .ok (.ifCond .eq 5, 3) := dk_153 0 5 (dk_at dksX2_waits_0 15 rfl rfl)
theorem dX2_waits_18 : decode cX2_waits 18 = .ok (.iconst 0, 1) := dk_3 (dk_at dksX2_waits_0 18 rfl rfl)
theorem dX2_waits_19 : decode cX2_waits 19 = .ok (.ireturn, 1) := dk_172 (dk_at dksX2_waits_0 19 rfl rfl)
theorem dX2_waits_20 : decode cX2_waits 20 = .ok (.aload_n 0, 1) := dk_42 (dk_at dksX2_waits_0 20 rfl rfl)
theorem dX2_waits_21 : decode cX2_waits 21 = .ok (.invokevirtual 317, 3) := dk_182 1 61 (dk_at dksX2_waits_0 21 rfl rfl)
theorem dX2_waits_24 : decode cX2_waits 24 = .ok (.aload_n 0, 1) := dk_42 (dk_at dksX2_waits_1 0 rfl rfl)
theorem dX2_waits_25 : decode cX2_waits 25 = .ok (.getfield 7, 3) := dk_180 0 7 (dk_at dksX2_waits_1 1 rfl rfl)
theorem dX2_waits_28 : decode cX2_waits 28 = .ok (.bipush 9, 2) := dk_16 9 (dk_at dksX2_waits_1 4 rfl rfl)
theorem dX2_waits_30 : decode cX2_waits 30 = .ok (.iconst 0, 1) := dk_3 (dk_at dksX2_waits_1 6 rfl rfl)
theorem dX2_waits_31 : decode cX2_waits 31 = .ok (.aload_n 0, 1) := dk_42 (dk_at dksX2_waits_1 7 rfl rfl)
theorem dX2_waits_32 : decode cX2_waits 32 = .ok (.getfield 7, 3) := dk_180 0 7 (dk_at dksX2_waits_1 8 rfl rfl)
theorem dX2_waits_35 : decode cX2_waits 35 = .ok (.bipush 9, 2) := dk_16 9 (dk_at dksX2_waits_1 11 rfl rfl)
theorem dX2_waits_37 : decode cX2_waits 37 = .ok (.iaload, 1) := dk_46 (dk_at dksX2_waits_1 13 rfl rfl)
theorem dX2_waits_38 : decode cX2_waits 38 = .ok (.iload_n 1, 1) := dk_27 (dk_at dksX2_waits_1 14 rfl rfl)
theorem dX2_waits_39 : decode cX2_waits 39 = .ok (.isub, 1) := dk_100 (dk_at dksX2_waits_1 15 rfl rfl)
theorem dX2_waits_40 : decode cX2_waits 40 = .ok (.invokestatic 116, 3) := dk_184 0 116 (dk_at dksX2_waits_1 16 rfl rfl)
theorem dX2_waits_43 : decode cX2_waits 43 = .ok (.iastore, 1) := dk_79 (dk_at dksX2_waits_1 19 rfl rfl)
theorem dX2_waits_44 : decode cX2_waits 44 = .ok (.aload_n 0, 1) := dk_42 (dk_at dksX2_waits_1 20 rfl rfl)
theorem dX2_waits_45 : decode cX2_waits 45 = .ok (.getfield 7, 3) := dk_180 0 7 (dk_at dksX2_waits_1 21 rfl rfl)
theorem dX2_waits_48 : decode cX2_waits 48 = .ok (.bipush 9, 2) := dk_16 9 (dk_at dksX2_waits_2 0 rfl rfl)
theorem dX2_waits_50 : decode cX2_waits 50 = .ok (.iaload, 1) := dk_46 (dk_at dksX2_waits_2 2 rfl rfl)
theorem dX2_waits_51 : decode cX2_waits 51 = .ok (.ireturn, 1) := dk_172 (dk_at dksX2_waits_2 3 rfl rfl)
abbrev cX2_turnStuck : ByteArray := prog_10_method_123_code
def yX2_turnStuck : MethodName := ⟨RX2, "turnStuck", "(I)I"⟩
def dkwX2_turnStuck_1 : List UInt8 := [180, 0, 7, 16, 31, 27, 96, 46, 100, 79, 42, 182, 0, 69, 172]
abbrev dktX2_turnStuck_1 : List UInt8 := dkwX2_turnStuck_1 ++ []
def dkwX2_turnStuck_0 : List UInt8 := [42, 27, 182, 1, 19, 153, 0, 5, 3, 172, 42, 182, 1, 61, 42, 180, 0, 7, 16, 31, 27, 96, 4, 42]
abbrev dktX2_turnStuck_0 : List UInt8 := dkwX2_turnStuck_0 ++ dktX2_turnStuck_1
theorem dksX2_turnStuck_0 : cX2_turnStuck.data.toList.drop 0 = dktX2_turnStuck_0 := by decide +kernel
theorem dksX2_turnStuck_1 : cX2_turnStuck.data.toList.drop 24 = dktX2_turnStuck_1 := dk_seg dksX2_turnStuck_0 24 rfl rfl
theorem dX2_turnStuck_0 : decode cX2_turnStuck 0 = .ok (.aload_n 0, 1) := dk_42 (dk_at dksX2_turnStuck_0 0 rfl rfl)
theorem dX2_turnStuck_1 : decode cX2_turnStuck 1 = .ok (.iload_n 1, 1) := dk_27 (dk_at dksX2_turnStuck_0 1 rfl rfl)
theorem dX2_turnStuck_2 : decode cX2_turnStuck 2 = .ok (.invokevirtual 275, 3) := dk_182 1 19 (dk_at dksX2_turnStuck_0 2 rfl rfl)
theorem dX2_turnStuck_5 : decode cX2_turnStuck 5 = .ok (.ifCond .eq 5, 3) := dk_153 0 5 (dk_at dksX2_turnStuck_0 5 rfl rfl)
theorem dX2_turnStuck_8 : decode cX2_turnStuck 8 = .ok (.iconst 0, 1) := dk_3 (dk_at dksX2_turnStuck_0 8 rfl rfl)
theorem dX2_turnStuck_9 : decode cX2_turnStuck 9 = .ok (.ireturn, 1) := dk_172 (dk_at dksX2_turnStuck_0 9 rfl rfl)
theorem dX2_turnStuck_10 : decode cX2_turnStuck 10 = .ok (.aload_n 0, 1) := dk_42 (dk_at dksX2_turnStuck_0 10 rfl rfl)
theorem dX2_turnStuck_11 : decode cX2_turnStuck 11 = .ok (.invokevirtual 317, 3) := dk_182 1 61 (dk_at dksX2_turnStuck_0 11 rfl rfl)
theorem dX2_turnStuck_14 : decode cX2_turnStuck 14 = .ok (.aload_n 0, 1) := dk_42 (dk_at dksX2_turnStuck_0 14 rfl rfl)
theorem dX2_turnStuck_15 : decode cX2_turnStuck 15 = .ok (.getfield 7, 3) := dk_180 0 7 (dk_at dksX2_turnStuck_0 15 rfl rfl)
theorem dX2_turnStuck_18 : decode cX2_turnStuck 18 = .ok (.bipush 31, 2) := dk_16 31 (dk_at dksX2_turnStuck_0 18 rfl rfl)
theorem dX2_turnStuck_20 : decode cX2_turnStuck 20 = .ok (.iload_n 1, 1) := dk_27 (dk_at dksX2_turnStuck_0 20 rfl rfl)
theorem dX2_turnStuck_21 : decode cX2_turnStuck 21 = .ok (.iadd, 1) := dk_96 (dk_at dksX2_turnStuck_0 21 rfl rfl)
theorem dX2_turnStuck_22 : decode cX2_turnStuck 22 = .ok (.iconst 1, 1) := dk_4 (dk_at dksX2_turnStuck_0 22 rfl rfl)
theorem dX2_turnStuck_23 : decode cX2_turnStuck 23 = .ok (.aload_n 0, 1) := dk_42 (dk_at dksX2_turnStuck_0 23 rfl rfl)
theorem dX2_turnStuck_24 : decode cX2_turnStuck 24 = .ok (.getfield 7, 3) := dk_180 0 7 (dk_at dksX2_turnStuck_1 0 rfl rfl)
theorem dX2_turnStuck_27 : decode cX2_turnStuck 27 = .ok (.bipush 31, 2) := dk_16 31 (dk_at dksX2_turnStuck_1 3 rfl rfl)
theorem dX2_turnStuck_29 : decode cX2_turnStuck 29 = .ok (.iload_n 1, 1) := dk_27 (dk_at dksX2_turnStuck_1 5 rfl rfl)
theorem dX2_turnStuck_30 : decode cX2_turnStuck 30 = .ok (.iadd, 1) := dk_96 (dk_at dksX2_turnStuck_1 6 rfl rfl)
theorem dX2_turnStuck_31 : decode cX2_turnStuck 31 = .ok (.iaload, 1) := dk_46 (dk_at dksX2_turnStuck_1 7 rfl rfl)
theorem dX2_turnStuck_32 : decode cX2_turnStuck 32 = .ok (.isub, 1) := dk_100 (dk_at dksX2_turnStuck_1 8 rfl rfl)
theorem dX2_turnStuck_33 : decode cX2_turnStuck 33 = .ok (.iastore, 1) := dk_79 (dk_at dksX2_turnStuck_1 9 rfl rfl)
theorem dX2_turnStuck_34 : decode cX2_turnStuck 34 = .ok (.aload_n 0, 1) := dk_42 (dk_at dksX2_turnStuck_1 10 rfl rfl)
theorem dX2_turnStuck_35 : decode cX2_turnStuck 35 = .ok (.invokevirtual 69, 3) := dk_182 0 69 (dk_at dksX2_turnStuck_1 11 rfl rfl)
theorem dX2_turnStuck_38 : decode cX2_turnStuck 38 = .ok (.ireturn, 1) := dk_172 (dk_at dksX2_turnStuck_1 14 rfl rfl)
abbrev cX2_setEye : ByteArray := prog_10_method_124_code
def yX2_setEye : MethodName := ⟨RX2, "setEye", "(I)I"⟩
def dkwX2_setEye_1 : List UInt8 := [180, 0, 7, 7, 27, 79, 42, 180, 0, 7, 16, 10, 2, 79, 42, 180, 0, 7, 16, 11, 3, 79, 28, 172]
abbrev dktX2_setEye_1 : List UInt8 := dkwX2_setEye_1 ++ []
def dkwX2_setEye_0 : List UInt8 := [42, 27, 182, 1, 19, 153, 0, 5, 3, 172, 42, 182, 1, 61, 42, 180, 0, 7, 7, 46, 61, 42]
abbrev dktX2_setEye_0 : List UInt8 := dkwX2_setEye_0 ++ dktX2_setEye_1
theorem dksX2_setEye_0 : cX2_setEye.data.toList.drop 0 = dktX2_setEye_0 := by decide +kernel
theorem dksX2_setEye_1 : cX2_setEye.data.toList.drop 22 = dktX2_setEye_1 := dk_seg dksX2_setEye_0 22 rfl rfl
theorem dX2_setEye_0 : decode cX2_setEye 0 = .ok (.aload_n 0, 1) := dk_42 (dk_at dksX2_setEye_0 0 rfl rfl)
theorem dX2_setEye_1 : decode cX2_setEye 1 = .ok (.iload_n 1, 1) := dk_27 (dk_at dksX2_setEye_0 1 rfl rfl)
theorem dX2_setEye_2 : decode cX2_setEye 2 = .ok (.invokevirtual 275, 3) := dk_182 1 19 (dk_at dksX2_setEye_0 2 rfl rfl)
theorem dX2_setEye_5 : decode cX2_setEye 5 = .ok (.ifCond .eq 5, 3) := dk_153 0 5 (dk_at dksX2_setEye_0 5 rfl rfl)
theorem dX2_setEye_8 : decode cX2_setEye 8 = .ok (.iconst 0, 1) := dk_3 (dk_at dksX2_setEye_0 8 rfl rfl)
theorem dX2_setEye_9 : decode cX2_setEye 9 = .ok (.ireturn, 1) := dk_172 (dk_at dksX2_setEye_0 9 rfl rfl)
theorem dX2_setEye_10 : decode cX2_setEye 10 = .ok (.aload_n 0, 1) := dk_42 (dk_at dksX2_setEye_0 10 rfl rfl)
theorem dX2_setEye_11 : decode cX2_setEye 11 = .ok (.invokevirtual 317, 3) := dk_182 1 61 (dk_at dksX2_setEye_0 11 rfl rfl)
theorem dX2_setEye_14 : decode cX2_setEye 14 = .ok (.aload_n 0, 1) := dk_42 (dk_at dksX2_setEye_0 14 rfl rfl)
theorem dX2_setEye_15 : decode cX2_setEye 15 = .ok (.getfield 7, 3) := dk_180 0 7 (dk_at dksX2_setEye_0 15 rfl rfl)
theorem dX2_setEye_18 : decode cX2_setEye 18 = .ok (.iconst 4, 1) := dk_7 (dk_at dksX2_setEye_0 18 rfl rfl)
theorem dX2_setEye_19 : decode cX2_setEye 19 = .ok (.iaload, 1) := dk_46 (dk_at dksX2_setEye_0 19 rfl rfl)
theorem dX2_setEye_20 : decode cX2_setEye 20 = .ok (.istore_n 2, 1) := dk_61 (dk_at dksX2_setEye_0 20 rfl rfl)
theorem dX2_setEye_21 : decode cX2_setEye 21 = .ok (.aload_n 0, 1) := dk_42 (dk_at dksX2_setEye_0 21 rfl rfl)
theorem dX2_setEye_22 : decode cX2_setEye 22 = .ok (.getfield 7, 3) := dk_180 0 7 (dk_at dksX2_setEye_1 0 rfl rfl)
theorem dX2_setEye_25 : decode cX2_setEye 25 = .ok (.iconst 4, 1) := dk_7 (dk_at dksX2_setEye_1 3 rfl rfl)
theorem dX2_setEye_26 : decode cX2_setEye 26 = .ok (.iload_n 1, 1) := dk_27 (dk_at dksX2_setEye_1 4 rfl rfl)
theorem dX2_setEye_27 : decode cX2_setEye 27 = .ok (.iastore, 1) := dk_79 (dk_at dksX2_setEye_1 5 rfl rfl)
theorem dX2_setEye_28 : decode cX2_setEye 28 = .ok (.aload_n 0, 1) := dk_42 (dk_at dksX2_setEye_1 6 rfl rfl)
theorem dX2_setEye_29 : decode cX2_setEye 29 = .ok (.getfield 7, 3) := dk_180 0 7 (dk_at dksX2_setEye_1 7 rfl rfl)
theorem dX2_setEye_32 : decode cX2_setEye 32 = .ok (.bipush 10, 2) := dk_16 10 (dk_at dksX2_setEye_1 10 rfl rfl)
theorem dX2_setEye_34 : decode cX2_setEye 34 = .ok (.iconst (-1), 1) := dk_2 (dk_at dksX2_setEye_1 12 rfl rfl)
theorem dX2_setEye_35 : decode cX2_setEye 35 = .ok (.iastore, 1) := dk_79 (dk_at dksX2_setEye_1 13 rfl rfl)
theorem dX2_setEye_36 : decode cX2_setEye 36 = .ok (.aload_n 0, 1) := dk_42 (dk_at dksX2_setEye_1 14 rfl rfl)
theorem dX2_setEye_37 : decode cX2_setEye 37 = .ok (.getfield 7, 3) := dk_180 0 7 (dk_at dksX2_setEye_1 15 rfl rfl)
theorem dX2_setEye_40 : decode cX2_setEye 40 = .ok (.bipush 11, 2) := dk_16 11 (dk_at dksX2_setEye_1 18 rfl rfl)
theorem dX2_setEye_42 : decode cX2_setEye 42 = .ok (.iconst 0, 1) := dk_3 (dk_at dksX2_setEye_1 20 rfl rfl)
theorem dX2_setEye_43 : decode cX2_setEye 43 = .ok (.iastore, 1) := dk_79 (dk_at dksX2_setEye_1 21 rfl rfl)
theorem dX2_setEye_44 : decode cX2_setEye 44 = .ok (.iload_n 2, 1) := dk_28 (dk_at dksX2_setEye_1 22 rfl rfl)
theorem dX2_setEye_45 : decode cX2_setEye 45 = .ok (.ireturn, 1) := dk_172 (dk_at dksX2_setEye_1 23 rfl rfl)
abbrev cX2_set : ByteArray := prog_10_method_126_code
def yX2_set : MethodName := ⟨RX2, "set", "(II)I"⟩
def dkwX2_set_2 : List UInt8 := [28, 79, 29, 172]
abbrev dktX2_set_2 : List UInt8 := dkwX2_set_2 ++ []
def dkwX2_set_1 : List UInt8 := [182, 0, 37, 153, 0, 5, 3, 172, 42, 182, 1, 61, 42, 180, 0, 7, 27, 46, 62, 42, 180, 0, 7, 27]
abbrev dktX2_set_1 : List UInt8 := dkwX2_set_1 ++ dktX2_set_2
def dkwX2_set_0 : List UInt8 := [42, 182, 1, 0, 154, 0, 24, 42, 27, 28, 184, 1, 68, 154, 0, 7, 4, 167, 0, 4, 3, 5]
abbrev dktX2_set_0 : List UInt8 := dkwX2_set_0 ++ dktX2_set_1
theorem dksX2_set_0 : cX2_set.data.toList.drop 0 = dktX2_set_0 := by decide +kernel
theorem dksX2_set_1 : cX2_set.data.toList.drop 22 = dktX2_set_1 := dk_seg dksX2_set_0 22 rfl rfl
theorem dksX2_set_2 : cX2_set.data.toList.drop 46 = dktX2_set_2 := dk_seg dksX2_set_1 24 rfl rfl
theorem dX2_set_0 : decode cX2_set 0 = .ok (.aload_n 0, 1) := dk_42 (dk_at dksX2_set_0 0 rfl rfl)
theorem dX2_set_1 : decode cX2_set 1 = .ok (.invokevirtual 256, 3) := dk_182 1 0 (dk_at dksX2_set_0 1 rfl rfl)
theorem dX2_set_4 : decode cX2_set 4 = .ok (.ifCond .ne 24, 3) := dk_154 0 24 (dk_at dksX2_set_0 4 rfl rfl)
theorem dX2_set_7 : decode cX2_set 7 = .ok (.aload_n 0, 1) := dk_42 (dk_at dksX2_set_0 7 rfl rfl)
theorem dX2_set_8 : decode cX2_set 8 = .ok (.iload_n 1, 1) := dk_27 (dk_at dksX2_set_0 8 rfl rfl)
theorem dX2_set_9 : decode cX2_set 9 = .ok (.iload_n 2, 1) := dk_28 (dk_at dksX2_set_0 9 rfl rfl)
theorem dX2_set_10 : decode cX2_set 10 = .ok (.invokestatic 324, 3) := dk_184 1 68 (dk_at dksX2_set_0 10 rfl rfl)
theorem dX2_set_13 : decode cX2_set 13 = .ok (.ifCond .ne 7, 3) := dk_154 0 7 (dk_at dksX2_set_0 13 rfl rfl)
theorem dX2_set_16 : decode cX2_set 16 = .ok (.iconst 1, 1) := dk_4 (dk_at dksX2_set_0 16 rfl rfl)
theorem dX2_set_17 : decode cX2_set 17 = .ok (.goto 4, 3) := dk_167 0 4 (dk_at dksX2_set_0 17 rfl rfl)
theorem dX2_set_20 : decode cX2_set 20 = .ok (.iconst 0, 1) := dk_3 (dk_at dksX2_set_0 20 rfl rfl)
theorem dX2_set_21 : decode cX2_set 21 = .ok (.iconst 2, 1) := dk_5 (dk_at dksX2_set_0 21 rfl rfl)
theorem dX2_set_22 : decode cX2_set 22 = .ok (.invokevirtual 37, 3) := dk_182 0 37 (dk_at dksX2_set_1 0 rfl rfl)
theorem dX2_set_25 : decode cX2_set 25 = .ok (.ifCond .eq 5, 3) := dk_153 0 5 (dk_at dksX2_set_1 3 rfl rfl)
theorem dX2_set_28 : decode cX2_set 28 = .ok (.iconst 0, 1) := dk_3 (dk_at dksX2_set_1 6 rfl rfl)
theorem dX2_set_29 : decode cX2_set 29 = .ok (.ireturn, 1) := dk_172 (dk_at dksX2_set_1 7 rfl rfl)
theorem dX2_set_30 : decode cX2_set 30 = .ok (.aload_n 0, 1) := dk_42 (dk_at dksX2_set_1 8 rfl rfl)
theorem dX2_set_31 : decode cX2_set 31 = .ok (.invokevirtual 317, 3) := dk_182 1 61 (dk_at dksX2_set_1 9 rfl rfl)
theorem dX2_set_34 : decode cX2_set 34 = .ok (.aload_n 0, 1) := dk_42 (dk_at dksX2_set_1 12 rfl rfl)
theorem dX2_set_35 : decode cX2_set 35 = .ok (.getfield 7, 3) := dk_180 0 7 (dk_at dksX2_set_1 13 rfl rfl)
theorem dX2_set_38 : decode cX2_set 38 = .ok (.iload_n 1, 1) := dk_27 (dk_at dksX2_set_1 16 rfl rfl)
theorem dX2_set_39 : decode cX2_set 39 = .ok (.iaload, 1) := dk_46 (dk_at dksX2_set_1 17 rfl rfl)
theorem dX2_set_40 : decode cX2_set 40 = .ok (.istore_n 3, 1) := dk_62 (dk_at dksX2_set_1 18 rfl rfl)
theorem dX2_set_41 : decode cX2_set 41 = .ok (.aload_n 0, 1) := dk_42 (dk_at dksX2_set_1 19 rfl rfl)
theorem dX2_set_42 : decode cX2_set 42 = .ok (.getfield 7, 3) := dk_180 0 7 (dk_at dksX2_set_1 20 rfl rfl)
theorem dX2_set_45 : decode cX2_set 45 = .ok (.iload_n 1, 1) := dk_27 (dk_at dksX2_set_1 23 rfl rfl)
theorem dX2_set_46 : decode cX2_set 46 = .ok (.iload_n 2, 1) := dk_28 (dk_at dksX2_set_2 0 rfl rfl)
theorem dX2_set_47 : decode cX2_set 47 = .ok (.iastore, 1) := dk_79 (dk_at dksX2_set_2 1 rfl rfl)
theorem dX2_set_48 : decode cX2_set 48 = .ok (.iload_n 3, 1) := dk_29 (dk_at dksX2_set_2 2 rfl rfl)
theorem dX2_set_49 : decode cX2_set 49 = .ok (.ireturn, 1) := dk_172 (dk_at dksX2_set_2 3 rfl rfl)
abbrev cX2_isSetting : ByteArray := prog_10_method_125_code
def yX2_isSetting : MethodName := ⟨RX2, "isSetting", "(II)Z"⟩
def dkwX2_isSetting_2 : List UInt8 := [184, 0, 170, 153, 0, 7, 4, 167, 0, 4, 3, 172]
abbrev dktX2_isSetting_2 : List UInt8 := dkwX2_isSetting_2 ++ []
def dkwX2_isSetting_1 : List UInt8 := [27, 133, 9, 20, 1, 66, 184, 0, 170, 154, 0, 21, 26, 16, 8, 160, 0, 19, 27, 133, 10, 20, 1, 24]
abbrev dktX2_isSetting_1 : List UInt8 := dkwX2_isSetting_1 ++ dktX2_isSetting_2
def dkwX2_isSetting_0 : List UInt8 := [26, 16, 6, 160, 0, 15, 27, 133, 10, 20, 1, 64, 184, 0, 170, 154, 0, 39, 26, 16, 7, 160, 0, 15]
abbrev dktX2_isSetting_0 : List UInt8 := dkwX2_isSetting_0 ++ dktX2_isSetting_1
theorem dksX2_isSetting_0 : cX2_isSetting.data.toList.drop 0 = dktX2_isSetting_0 := by decide +kernel
theorem dksX2_isSetting_1 : cX2_isSetting.data.toList.drop 24 = dktX2_isSetting_1 := dk_seg dksX2_isSetting_0 24 rfl rfl
theorem dksX2_isSetting_2 : cX2_isSetting.data.toList.drop 48 = dktX2_isSetting_2 := dk_seg dksX2_isSetting_1 24 rfl rfl
theorem dX2_isSetting_0 : decode cX2_isSetting 0 = .ok (.iload_n 0, 1) := dk_26 (dk_at dksX2_isSetting_0 0 rfl rfl)
theorem dX2_isSetting_1 : decode cX2_isSetting 1 = .ok (.bipush 6, 2) := dk_16 6 (dk_at dksX2_isSetting_0 1 rfl rfl)
theorem dX2_isSetting_3 : decode cX2_isSetting 3 = .ok (.if_icmp .ne 15, 3) := dk_160 0 15 (dk_at dksX2_isSetting_0 3 rfl rfl)
theorem dX2_isSetting_6 : decode cX2_isSetting 6 = .ok (.iload_n 1, 1) := dk_27 (dk_at dksX2_isSetting_0 6 rfl rfl)
theorem dX2_isSetting_7 : decode cX2_isSetting 7 = .ok (.i2l, 1) := dk_133 (dk_at dksX2_isSetting_0 7 rfl rfl)
theorem dX2_isSetting_8 : decode cX2_isSetting 8 = .ok (.lconst 1, 1) := dk_10 (dk_at dksX2_isSetting_0 8 rfl rfl)
theorem dX2_isSetting_9 : decode cX2_isSetting 9 = .ok (.ldc2_w 320, 3) := dk_20 1 64 (dk_at dksX2_isSetting_0 9 rfl rfl)
theorem dX2_isSetting_12 : decode cX2_isSetting 12 = .ok (.invokestatic 170, 3) := dk_184 0 170 (dk_at dksX2_isSetting_0 12 rfl rfl)
theorem dX2_isSetting_15 : decode cX2_isSetting 15 = .ok (.ifCond .ne 39, 3) := dk_154 0 39 (dk_at dksX2_isSetting_0 15 rfl rfl)
theorem dX2_isSetting_18 : decode cX2_isSetting 18 = .ok (.iload_n 0, 1) := dk_26 (dk_at dksX2_isSetting_0 18 rfl rfl)
theorem dX2_isSetting_19 : decode cX2_isSetting 19 = .ok (.bipush 7, 2) := dk_16 7 (dk_at dksX2_isSetting_0 19 rfl rfl)
theorem dX2_isSetting_21 : decode cX2_isSetting 21 = .ok (.if_icmp .ne 15, 3) := dk_160 0 15 (dk_at dksX2_isSetting_0 21 rfl rfl)
theorem dX2_isSetting_24 : decode cX2_isSetting 24 = .ok (.iload_n 1, 1) := dk_27 (dk_at dksX2_isSetting_1 0 rfl rfl)
theorem dX2_isSetting_25 : decode cX2_isSetting 25 = .ok (.i2l, 1) := dk_133 (dk_at dksX2_isSetting_1 1 rfl rfl)
theorem dX2_isSetting_26 : decode cX2_isSetting 26 = .ok (.lconst 0, 1) := dk_9 (dk_at dksX2_isSetting_1 2 rfl rfl)
theorem dX2_isSetting_27 : decode cX2_isSetting 27 = .ok (.ldc2_w 322, 3) := dk_20 1 66 (dk_at dksX2_isSetting_1 3 rfl rfl)
theorem dX2_isSetting_30 : decode cX2_isSetting 30 = .ok (.invokestatic 170, 3) := dk_184 0 170 (dk_at dksX2_isSetting_1 6 rfl rfl)
theorem dX2_isSetting_33 : decode cX2_isSetting 33 = .ok (.ifCond .ne 21, 3) := dk_154 0 21 (dk_at dksX2_isSetting_1 9 rfl rfl)
theorem dX2_isSetting_36 : decode cX2_isSetting 36 = .ok (.iload_n 0, 1) := dk_26 (dk_at dksX2_isSetting_1 12 rfl rfl)
theorem dX2_isSetting_37 : decode cX2_isSetting 37 = .ok (.bipush 8, 2) := dk_16 8 (dk_at dksX2_isSetting_1 13 rfl rfl)
theorem dX2_isSetting_39 : decode cX2_isSetting 39 = .ok (.if_icmp .ne 19, 3) := dk_160 0 19 (dk_at dksX2_isSetting_1 15 rfl rfl)
theorem dX2_isSetting_42 : decode cX2_isSetting 42 = .ok (.iload_n 1, 1) := dk_27 (dk_at dksX2_isSetting_1 18 rfl rfl)
theorem dX2_isSetting_43 : decode cX2_isSetting 43 = .ok (.i2l, 1) := dk_133 (dk_at dksX2_isSetting_1 19 rfl rfl)
theorem dX2_isSetting_44 : decode cX2_isSetting 44 = .ok (.lconst 1, 1) := dk_10 (dk_at dksX2_isSetting_1 20 rfl rfl)
theorem dX2_isSetting_45 : decode cX2_isSetting 45 = .ok (.ldc2_w 280, 3) := dk_20 1 24 (dk_at dksX2_isSetting_1 21 rfl rfl)
theorem dX2_isSetting_48 : decode cX2_isSetting 48 = .ok (.invokestatic 170, 3) := dk_184 0 170 (dk_at dksX2_isSetting_2 0 rfl rfl)
theorem dX2_isSetting_51 : decode cX2_isSetting 51 = .ok (.ifCond .eq 7, 3) := dk_153 0 7 (dk_at dksX2_isSetting_2 3 rfl rfl)
theorem dX2_isSetting_54 : decode cX2_isSetting 54 = .ok (.iconst 1, 1) := dk_4 (dk_at dksX2_isSetting_2 6 rfl rfl)
theorem dX2_isSetting_55 : decode cX2_isSetting 55 = .ok (.goto 4, 3) := dk_167 0 4 (dk_at dksX2_isSetting_2 7 rfl rfl)
theorem dX2_isSetting_58 : decode cX2_isSetting 58 = .ok (.iconst 0, 1) := dk_3 (dk_at dksX2_isSetting_2 10 rfl rfl)
theorem dX2_isSetting_59 : decode cX2_isSetting 59 = .ok (.ireturn, 1) := dk_172 (dk_at dksX2_isSetting_2 11 rfl rfl)
abbrev cX2_undo : ByteArray := prog_10_method_127_code
def yX2_undo : MethodName := ⟨RX2, "undo", "()I"⟩
def dkwX2_undo_2 : List UInt8 := [180, 0, 253, 96, 104, 42, 180, 0, 7, 3, 184, 0, 41, 42, 180, 0, 253, 172]
abbrev dktX2_undo_2 : List UInt8 := dkwX2_undo_2 ++ []
def dkwX2_undo_1 : List UInt8 := [153, 0, 5, 3, 172, 42, 89, 180, 0, 253, 4, 100, 181, 0, 253, 42, 180, 0, 13, 16, 113, 3, 42]
abbrev dktX2_undo_1 : List UInt8 := dkwX2_undo_1 ++ dktX2_undo_2
def dkwX2_undo_0 : List UInt8 := [42, 3, 181, 0, 30, 42, 42, 180, 0, 253, 154, 0, 7, 4, 167, 0, 4, 3, 4, 182, 0, 37]
abbrev dktX2_undo_0 : List UInt8 := dkwX2_undo_0 ++ dktX2_undo_1
theorem dksX2_undo_0 : cX2_undo.data.toList.drop 0 = dktX2_undo_0 := by decide +kernel
theorem dksX2_undo_1 : cX2_undo.data.toList.drop 22 = dktX2_undo_1 := dk_seg dksX2_undo_0 22 rfl rfl
theorem dksX2_undo_2 : cX2_undo.data.toList.drop 45 = dktX2_undo_2 := dk_seg dksX2_undo_1 23 rfl rfl
theorem dX2_undo_0 : decode cX2_undo 0 = .ok (.aload_n 0, 1) := dk_42 (dk_at dksX2_undo_0 0 rfl rfl)
theorem dX2_undo_1 : decode cX2_undo 1 = .ok (.iconst 0, 1) := dk_3 (dk_at dksX2_undo_0 1 rfl rfl)
theorem dX2_undo_2 : decode cX2_undo 2 = .ok (.putfield 30, 3) := dk_181 0 30 (dk_at dksX2_undo_0 2 rfl rfl)
theorem dX2_undo_5 : decode cX2_undo 5 = .ok (.aload_n 0, 1) := dk_42 (dk_at dksX2_undo_0 5 rfl rfl)
theorem dX2_undo_6 : decode cX2_undo 6 = .ok (.aload_n 0, 1) := dk_42 (dk_at dksX2_undo_0 6 rfl rfl)
theorem dX2_undo_7 : decode cX2_undo 7 = .ok (.getfield 253, 3) := dk_180 0 253 (dk_at dksX2_undo_0 7 rfl rfl)
theorem dX2_undo_10 : decode cX2_undo 10 = .ok (.ifCond .ne 7, 3) := dk_154 0 7 (dk_at dksX2_undo_0 10 rfl rfl)
theorem dX2_undo_13 : decode cX2_undo 13 = .ok (.iconst 1, 1) := dk_4 (dk_at dksX2_undo_0 13 rfl rfl)
theorem dX2_undo_14 : decode cX2_undo 14 = .ok (.goto 4, 3) := dk_167 0 4 (dk_at dksX2_undo_0 14 rfl rfl)
theorem dX2_undo_17 : decode cX2_undo 17 = .ok (.iconst 0, 1) := dk_3 (dk_at dksX2_undo_0 17 rfl rfl)
theorem dX2_undo_18 : decode cX2_undo 18 = .ok (.iconst 1, 1) := dk_4 (dk_at dksX2_undo_0 18 rfl rfl)
theorem dX2_undo_19 : decode cX2_undo 19 = .ok (.invokevirtual 37, 3) := dk_182 0 37 (dk_at dksX2_undo_0 19 rfl rfl)
theorem dX2_undo_22 : decode cX2_undo 22 = .ok (.ifCond .eq 5, 3) := dk_153 0 5 (dk_at dksX2_undo_1 0 rfl rfl)
theorem dX2_undo_25 : decode cX2_undo 25 = .ok (.iconst 0, 1) := dk_3 (dk_at dksX2_undo_1 3 rfl rfl)
theorem dX2_undo_26 : decode cX2_undo 26 = .ok (.ireturn, 1) := dk_172 (dk_at dksX2_undo_1 4 rfl rfl)
theorem dX2_undo_27 : decode cX2_undo 27 = .ok (.aload_n 0, 1) := dk_42 (dk_at dksX2_undo_1 5 rfl rfl)
theorem dX2_undo_28 : decode cX2_undo 28 = .ok (.dup, 1) := dk_89 (dk_at dksX2_undo_1 6 rfl rfl)
theorem dX2_undo_29 : decode cX2_undo 29 = .ok (.getfield 253, 3) := dk_180 0 253 (dk_at dksX2_undo_1 7 rfl rfl)
theorem dX2_undo_32 : decode cX2_undo 32 = .ok (.iconst 1, 1) := dk_4 (dk_at dksX2_undo_1 10 rfl rfl)
theorem dX2_undo_33 : decode cX2_undo 33 = .ok (.isub, 1) := dk_100 (dk_at dksX2_undo_1 11 rfl rfl)
theorem dX2_undo_34 : decode cX2_undo 34 = .ok (.putfield 253, 3) := dk_181 0 253 (dk_at dksX2_undo_1 12 rfl rfl)
theorem dX2_undo_37 : decode cX2_undo 37 = .ok (.aload_n 0, 1) := dk_42 (dk_at dksX2_undo_1 15 rfl rfl)
theorem dX2_undo_38 : decode cX2_undo 38 = .ok (.getfield 13, 3) := dk_180 0 13 (dk_at dksX2_undo_1 16 rfl rfl)
theorem dX2_undo_41 : decode cX2_undo 41 = .ok (.bipush 113, 2) := dk_16 113 (dk_at dksX2_undo_1 19 rfl rfl)
theorem dX2_undo_43 : decode cX2_undo 43 = .ok (.iconst 0, 1) := dk_3 (dk_at dksX2_undo_1 21 rfl rfl)
theorem dX2_undo_44 : decode cX2_undo 44 = .ok (.aload_n 0, 1) := dk_42 (dk_at dksX2_undo_1 22 rfl rfl)
theorem dX2_undo_45 : decode cX2_undo 45 = .ok (.getfield 253, 3) := dk_180 0 253 (dk_at dksX2_undo_2 0 rfl rfl)
theorem dX2_undo_48 : decode cX2_undo 48 = .ok (.iadd, 1) := dk_96 (dk_at dksX2_undo_2 3 rfl rfl)
theorem dX2_undo_49 : decode cX2_undo 49 = .ok (.imul, 1) := dk_104 (dk_at dksX2_undo_2 4 rfl rfl)
theorem dX2_undo_50 : decode cX2_undo 50 = .ok (.aload_n 0, 1) := dk_42 (dk_at dksX2_undo_2 5 rfl rfl)
theorem dX2_undo_51 : decode cX2_undo 51 = .ok (.getfield 7, 3) := dk_180 0 7 (dk_at dksX2_undo_2 6 rfl rfl)
theorem dX2_undo_54 : decode cX2_undo 54 = .ok (.iconst 0, 1) := dk_3 (dk_at dksX2_undo_2 9 rfl rfl)
theorem dX2_undo_55 : decode cX2_undo 55 = .ok (.invokestatic 41, 3) := dk_184 0 41 (dk_at dksX2_undo_2 10 rfl rfl)
theorem dX2_undo_58 : decode cX2_undo 58 = .ok (.aload_n 0, 1) := dk_42 (dk_at dksX2_undo_2 13 rfl rfl)
theorem dX2_undo_59 : decode cX2_undo 59 = .ok (.getfield 253, 3) := dk_180 0 253 (dk_at dksX2_undo_2 14 rfl rfl)
theorem dX2_undo_62 : decode cX2_undo 62 = .ok (.ireturn, 1) := dk_172 (dk_at dksX2_undo_2 17 rfl rfl)
abbrev cX2_undoable : ByteArray := prog_10_method_128_code
def yX2_undoable : MethodName := ⟨RX2, "undoable", "()I"⟩
def dkwX2_undoable_0 : List UInt8 := [42, 3, 181, 0, 30, 42, 180, 0, 253, 172]
abbrev dktX2_undoable_0 : List UInt8 := dkwX2_undoable_0 ++ []
theorem dksX2_undoable_0 : cX2_undoable.data.toList.drop 0 = dktX2_undoable_0 := by decide +kernel
theorem dX2_undoable_0 : decode cX2_undoable 0 = .ok (.aload_n 0, 1) := dk_42 (dk_at dksX2_undoable_0 0 rfl rfl)
theorem dX2_undoable_1 : decode cX2_undoable 1 = .ok (.iconst 0, 1) := dk_3 (dk_at dksX2_undoable_0 1 rfl rfl)
theorem dX2_undoable_2 : decode cX2_undoable 2 = .ok (.putfield 30, 3) := dk_181 0 30 (dk_at dksX2_undoable_0 2 rfl rfl)
theorem dX2_undoable_5 : decode cX2_undoable 5 = .ok (.aload_n 0, 1) := dk_42 (dk_at dksX2_undoable_0 5 rfl rfl)
theorem dX2_undoable_6 : decode cX2_undoable 6 = .ok (.getfield 253, 3) := dk_180 0 253 (dk_at dksX2_undoable_0 6 rfl rfl)
theorem dX2_undoable_9 : decode cX2_undoable 9 = .ok (.ireturn, 1) := dk_172 (dk_at dksX2_undoable_0 9 rfl rfl)
abbrev cX2_save : ByteArray := prog_10_method_129_code
def yX2_save : MethodName := ⟨RX2, "save", "(I)I"⟩
def dkwX2_save_2 : List UInt8 := [184, 0, 41, 42, 180, 0, 16, 27, 4, 84, 42, 182, 1, 10, 172]
abbrev dktX2_save_2 : List UInt8 := dkwX2_save_2 ++ []
def dkwX2_save_1 : List UInt8 := [182, 0, 37, 153, 0, 5, 3, 172, 42, 180, 0, 7, 3, 42, 180, 0, 13, 16, 113, 16, 8, 27, 96, 104]
abbrev dktX2_save_1 : List UInt8 := dkwX2_save_1 ++ dktX2_save_2
def dkwX2_save_0 : List UInt8 := [42, 182, 1, 0, 154, 0, 26, 42, 27, 133, 9, 10, 184, 0, 170, 154, 0, 7, 4, 167, 0, 4, 3, 5]
abbrev dktX2_save_0 : List UInt8 := dkwX2_save_0 ++ dktX2_save_1
theorem dksX2_save_0 : cX2_save.data.toList.drop 0 = dktX2_save_0 := by decide +kernel
theorem dksX2_save_1 : cX2_save.data.toList.drop 24 = dktX2_save_1 := dk_seg dksX2_save_0 24 rfl rfl
theorem dksX2_save_2 : cX2_save.data.toList.drop 48 = dktX2_save_2 := dk_seg dksX2_save_1 24 rfl rfl
theorem dX2_save_0 : decode cX2_save 0 = .ok (.aload_n 0, 1) := dk_42 (dk_at dksX2_save_0 0 rfl rfl)
theorem dX2_save_1 : decode cX2_save 1 = .ok (.invokevirtual 256, 3) := dk_182 1 0 (dk_at dksX2_save_0 1 rfl rfl)
theorem dX2_save_4 : decode cX2_save 4 = .ok (.ifCond .ne 26, 3) := dk_154 0 26 (dk_at dksX2_save_0 4 rfl rfl)
theorem dX2_save_7 : decode cX2_save 7 = .ok (.aload_n 0, 1) := dk_42 (dk_at dksX2_save_0 7 rfl rfl)
theorem dX2_save_8 : decode cX2_save 8 = .ok (.iload_n 1, 1) := dk_27 (dk_at dksX2_save_0 8 rfl rfl)
theorem dX2_save_9 : decode cX2_save 9 = .ok (.i2l, 1) := dk_133 (dk_at dksX2_save_0 9 rfl rfl)
theorem dX2_save_10 : decode cX2_save 10 = .ok (.lconst 0, 1) := dk_9 (dk_at dksX2_save_0 10 rfl rfl)
theorem dX2_save_11 : decode cX2_save 11 = .ok (.lconst 1, 1) := dk_10 (dk_at dksX2_save_0 11 rfl rfl)
theorem dX2_save_12 : decode cX2_save 12 = .ok (.invokestatic 170, 3) := dk_184 0 170 (dk_at dksX2_save_0 12 rfl rfl)
theorem dX2_save_15 : decode cX2_save 15 = .ok (.ifCond .ne 7, 3) := dk_154 0 7 (dk_at dksX2_save_0 15 rfl rfl)
theorem dX2_save_18 : decode cX2_save 18 = .ok (.iconst 1, 1) := dk_4 (dk_at dksX2_save_0 18 rfl rfl)
theorem dX2_save_19 : decode cX2_save 19 = .ok (.goto 4, 3) := dk_167 0 4 (dk_at dksX2_save_0 19 rfl rfl)
theorem dX2_save_22 : decode cX2_save 22 = .ok (.iconst 0, 1) := dk_3 (dk_at dksX2_save_0 22 rfl rfl)
theorem dX2_save_23 : decode cX2_save 23 = .ok (.iconst 2, 1) := dk_5 (dk_at dksX2_save_0 23 rfl rfl)
theorem dX2_save_24 : decode cX2_save 24 = .ok (.invokevirtual 37, 3) := dk_182 0 37 (dk_at dksX2_save_1 0 rfl rfl)
theorem dX2_save_27 : decode cX2_save 27 = .ok (.ifCond .eq 5, 3) := dk_153 0 5 (dk_at dksX2_save_1 3 rfl rfl)
theorem dX2_save_30 : decode cX2_save 30 = .ok (.iconst 0, 1) := dk_3 (dk_at dksX2_save_1 6 rfl rfl)
theorem dX2_save_31 : decode cX2_save 31 = .ok (.ireturn, 1) := dk_172 (dk_at dksX2_save_1 7 rfl rfl)
theorem dX2_save_32 : decode cX2_save 32 = .ok (.aload_n 0, 1) := dk_42 (dk_at dksX2_save_1 8 rfl rfl)
theorem dX2_save_33 : decode cX2_save 33 = .ok (.getfield 7, 3) := dk_180 0 7 (dk_at dksX2_save_1 9 rfl rfl)
theorem dX2_save_36 : decode cX2_save 36 = .ok (.iconst 0, 1) := dk_3 (dk_at dksX2_save_1 12 rfl rfl)
theorem dX2_save_37 : decode cX2_save 37 = .ok (.aload_n 0, 1) := dk_42 (dk_at dksX2_save_1 13 rfl rfl)
theorem dX2_save_38 : decode cX2_save 38 = .ok (.getfield 13, 3) := dk_180 0 13 (dk_at dksX2_save_1 14 rfl rfl)
theorem dX2_save_41 : decode cX2_save 41 = .ok (.bipush 113, 2) := dk_16 113 (dk_at dksX2_save_1 17 rfl rfl)
theorem dX2_save_43 : decode cX2_save 43 = .ok (.bipush 8, 2) := dk_16 8 (dk_at dksX2_save_1 19 rfl rfl)
theorem dX2_save_45 : decode cX2_save 45 = .ok (.iload_n 1, 1) := dk_27 (dk_at dksX2_save_1 21 rfl rfl)
theorem dX2_save_46 : decode cX2_save 46 = .ok (.iadd, 1) := dk_96 (dk_at dksX2_save_1 22 rfl rfl)
theorem dX2_save_47 : decode cX2_save 47 = .ok (.imul, 1) := dk_104 (dk_at dksX2_save_1 23 rfl rfl)
theorem dX2_save_48 : decode cX2_save 48 = .ok (.invokestatic 41, 3) := dk_184 0 41 (dk_at dksX2_save_2 0 rfl rfl)
theorem dX2_save_51 : decode cX2_save 51 = .ok (.aload_n 0, 1) := dk_42 (dk_at dksX2_save_2 3 rfl rfl)
theorem dX2_save_52 : decode cX2_save 52 = .ok (.getfield 16, 3) := dk_180 0 16 (dk_at dksX2_save_2 4 rfl rfl)
theorem dX2_save_55 : decode cX2_save 55 = .ok (.iload_n 1, 1) := dk_27 (dk_at dksX2_save_2 7 rfl rfl)
theorem dX2_save_56 : decode cX2_save 56 = .ok (.iconst 1, 1) := dk_4 (dk_at dksX2_save_2 8 rfl rfl)
theorem dX2_save_57 : decode cX2_save 57 = .ok (.bastore, 1) := dk_84 (dk_at dksX2_save_2 9 rfl rfl)
theorem dX2_save_58 : decode cX2_save 58 = .ok (.aload_n 0, 1) := dk_42 (dk_at dksX2_save_2 10 rfl rfl)
theorem dX2_save_59 : decode cX2_save 59 = .ok (.invokevirtual 266, 3) := dk_182 1 10 (dk_at dksX2_save_2 11 rfl rfl)
theorem dX2_save_62 : decode cX2_save 62 = .ok (.ireturn, 1) := dk_172 (dk_at dksX2_save_2 14 rfl rfl)
abbrev cX2_restore : ByteArray := prog_10_method_130_code
def yX2_restore : MethodName := ⟨RX2, "restore", "(I)I"⟩
def dkwX2_restore_3 : List UInt8 := [184, 0, 41, 42, 3, 181, 0, 253, 42, 182, 1, 10, 172]
abbrev dktX2_restore_3 : List UInt8 := dkwX2_restore_3 ++ []
def dkwX2_restore_2 : List UInt8 := [182, 0, 37, 153, 0, 5, 3, 172, 42, 180, 0, 13, 16, 113, 16, 8, 27, 96, 104, 42, 180, 0, 7, 3]
abbrev dktX2_restore_2 : List UInt8 := dkwX2_restore_2 ++ dktX2_restore_3
def dkwX2_restore_1 : List UInt8 := [182, 0, 37, 154, 0, 25, 42, 42, 180, 0, 16, 27, 51, 154, 0, 7, 4, 167, 0, 4, 3, 5]
abbrev dktX2_restore_1 : List UInt8 := dkwX2_restore_1 ++ dktX2_restore_2
def dkwX2_restore_0 : List UInt8 := [42, 3, 181, 0, 30, 42, 27, 133, 9, 10, 184, 0, 170, 154, 0, 7, 4, 167, 0, 4, 3, 4]
abbrev dktX2_restore_0 : List UInt8 := dkwX2_restore_0 ++ dktX2_restore_1
theorem dksX2_restore_0 : cX2_restore.data.toList.drop 0 = dktX2_restore_0 := by decide +kernel
theorem dksX2_restore_1 : cX2_restore.data.toList.drop 22 = dktX2_restore_1 := dk_seg dksX2_restore_0 22 rfl rfl
theorem dksX2_restore_2 : cX2_restore.data.toList.drop 44 = dktX2_restore_2 := dk_seg dksX2_restore_1 22 rfl rfl
theorem dksX2_restore_3 : cX2_restore.data.toList.drop 68 = dktX2_restore_3 := dk_seg dksX2_restore_2 24 rfl rfl
theorem dX2_restore_0 : decode cX2_restore 0 = .ok (.aload_n 0, 1) := dk_42 (dk_at dksX2_restore_0 0 rfl rfl)
theorem dX2_restore_1 : decode cX2_restore 1 = .ok (.iconst 0, 1) := dk_3 (dk_at dksX2_restore_0 1 rfl rfl)
theorem dX2_restore_2 : decode cX2_restore 2 = .ok (.putfield 30, 3) := dk_181 0 30 (dk_at dksX2_restore_0 2 rfl rfl)
theorem dX2_restore_5 : decode cX2_restore 5 = .ok (.aload_n 0, 1) := dk_42 (dk_at dksX2_restore_0 5 rfl rfl)
theorem dX2_restore_6 : decode cX2_restore 6 = .ok (.iload_n 1, 1) := dk_27 (dk_at dksX2_restore_0 6 rfl rfl)
theorem dX2_restore_7 : decode cX2_restore 7 = .ok (.i2l, 1) := dk_133 (dk_at dksX2_restore_0 7 rfl rfl)
theorem dX2_restore_8 : decode cX2_restore 8 = .ok (.lconst 0, 1) := dk_9 (dk_at dksX2_restore_0 8 rfl rfl)
theorem dX2_restore_9 : decode cX2_restore 9 = .ok (.lconst 1, 1) := dk_10 (dk_at dksX2_restore_0 9 rfl rfl)
theorem dX2_restore_10 : decode cX2_restore 10 = .ok (.invokestatic 170, 3) := dk_184 0 170 (dk_at dksX2_restore_0 10 rfl rfl)
theorem dX2_restore_13 : decode cX2_restore 13 = .ok (.ifCond .ne 7, 3) := dk_154 0 7 (dk_at dksX2_restore_0 13 rfl rfl)
theorem dX2_restore_16 : decode cX2_restore 16 = .ok (.iconst 1, 1) := dk_4 (dk_at dksX2_restore_0 16 rfl rfl)
theorem dX2_restore_17 : decode cX2_restore 17 = .ok (.goto 4, 3) := dk_167 0 4 (dk_at dksX2_restore_0 17 rfl rfl)
theorem dX2_restore_20 : decode cX2_restore 20 = .ok (.iconst 0, 1) := dk_3 (dk_at dksX2_restore_0 20 rfl rfl)
theorem dX2_restore_21 : decode cX2_restore 21 = .ok (.iconst 1, 1) := dk_4 (dk_at dksX2_restore_0 21 rfl rfl)
theorem dX2_restore_22 : decode cX2_restore 22 = .ok (.invokevirtual 37, 3) := dk_182 0 37 (dk_at dksX2_restore_1 0 rfl rfl)
theorem dX2_restore_25 : decode cX2_restore 25 = .ok (.ifCond .ne 25, 3) := dk_154 0 25 (dk_at dksX2_restore_1 3 rfl rfl)
theorem dX2_restore_28 : decode cX2_restore 28 = .ok (.aload_n 0, 1) := dk_42 (dk_at dksX2_restore_1 6 rfl rfl)
theorem dX2_restore_29 : decode cX2_restore 29 = .ok (.aload_n 0, 1) := dk_42 (dk_at dksX2_restore_1 7 rfl rfl)
theorem dX2_restore_30 : decode cX2_restore 30 = .ok (.getfield 16, 3) := dk_180 0 16 (dk_at dksX2_restore_1 8 rfl rfl)
theorem dX2_restore_33 : decode cX2_restore 33 = .ok (.iload_n 1, 1) := dk_27 (dk_at dksX2_restore_1 11 rfl rfl)
theorem dX2_restore_34 : decode cX2_restore 34 = .ok (.baload, 1) := dk_51 (dk_at dksX2_restore_1 12 rfl rfl)
theorem dX2_restore_35 : decode cX2_restore 35 = .ok (.ifCond .ne 7, 3) := dk_154 0 7 (dk_at dksX2_restore_1 13 rfl rfl)
theorem dX2_restore_38 : decode cX2_restore 38 = .ok (.iconst 1, 1) := dk_4 (dk_at dksX2_restore_1 16 rfl rfl)
theorem dX2_restore_39 : decode cX2_restore 39 = .ok (.goto 4, 3) := dk_167 0 4 (dk_at dksX2_restore_1 17 rfl rfl)
theorem dX2_restore_42 : decode cX2_restore 42 = .ok (.iconst 0, 1) := dk_3 (dk_at dksX2_restore_1 20 rfl rfl)
theorem dX2_restore_43 : decode cX2_restore 43 = .ok (.iconst 2, 1) := dk_5 (dk_at dksX2_restore_1 21 rfl rfl)
theorem dX2_restore_44 : decode cX2_restore 44 = .ok (.invokevirtual 37, 3) := dk_182 0 37 (dk_at dksX2_restore_2 0 rfl rfl)
theorem dX2_restore_47 : decode cX2_restore 47 = .ok (.ifCond .eq 5, 3) := dk_153 0 5 (dk_at dksX2_restore_2 3 rfl rfl)
theorem dX2_restore_50 : decode cX2_restore 50 = .ok (.iconst 0, 1) := dk_3 (dk_at dksX2_restore_2 6 rfl rfl)
theorem dX2_restore_51 : decode cX2_restore 51 = .ok (.ireturn, 1) := dk_172 (dk_at dksX2_restore_2 7 rfl rfl)
theorem dX2_restore_52 : decode cX2_restore 52 = .ok (.aload_n 0, 1) := dk_42 (dk_at dksX2_restore_2 8 rfl rfl)
theorem dX2_restore_53 : decode cX2_restore 53 = .ok (.getfield 13, 3) := dk_180 0 13 (dk_at dksX2_restore_2 9 rfl rfl)
theorem dX2_restore_56 : decode cX2_restore 56 = .ok (.bipush 113, 2) := dk_16 113 (dk_at dksX2_restore_2 12 rfl rfl)
theorem dX2_restore_58 : decode cX2_restore 58 = .ok (.bipush 8, 2) := dk_16 8 (dk_at dksX2_restore_2 14 rfl rfl)
theorem dX2_restore_60 : decode cX2_restore 60 = .ok (.iload_n 1, 1) := dk_27 (dk_at dksX2_restore_2 16 rfl rfl)
theorem dX2_restore_61 : decode cX2_restore 61 = .ok (.iadd, 1) := dk_96 (dk_at dksX2_restore_2 17 rfl rfl)
theorem dX2_restore_62 : decode cX2_restore 62 = .ok (.imul, 1) := dk_104 (dk_at dksX2_restore_2 18 rfl rfl)
theorem dX2_restore_63 : decode cX2_restore 63 = .ok (.aload_n 0, 1) := dk_42 (dk_at dksX2_restore_2 19 rfl rfl)
theorem dX2_restore_64 : decode cX2_restore 64 = .ok (.getfield 7, 3) := dk_180 0 7 (dk_at dksX2_restore_2 20 rfl rfl)
theorem dX2_restore_67 : decode cX2_restore 67 = .ok (.iconst 0, 1) := dk_3 (dk_at dksX2_restore_2 23 rfl rfl)
theorem dX2_restore_68 : decode cX2_restore 68 = .ok (.invokestatic 41, 3) := dk_184 0 41 (dk_at dksX2_restore_3 0 rfl rfl)
theorem dX2_restore_71 : decode cX2_restore 71 = .ok (.aload_n 0, 1) := dk_42 (dk_at dksX2_restore_3 3 rfl rfl)
theorem dX2_restore_72 : decode cX2_restore 72 = .ok (.iconst 0, 1) := dk_3 (dk_at dksX2_restore_3 4 rfl rfl)
theorem dX2_restore_73 : decode cX2_restore 73 = .ok (.putfield 253, 3) := dk_181 0 253 (dk_at dksX2_restore_3 5 rfl rfl)
theorem dX2_restore_76 : decode cX2_restore 76 = .ok (.aload_n 0, 1) := dk_42 (dk_at dksX2_restore_3 8 rfl rfl)
theorem dX2_restore_77 : decode cX2_restore 77 = .ok (.invokevirtual 266, 3) := dk_182 1 10 (dk_at dksX2_restore_3 9 rfl rfl)
theorem dX2_restore_80 : decode cX2_restore 80 = .ok (.ireturn, 1) := dk_172 (dk_at dksX2_restore_3 12 rfl rfl)
theorem q98 : (Jvm.Cond.initialized "PingEyeModel") ∈ lw_all := lw_g (lw_at lw_m1 4 rfl) rfl
theorem q1092 : (Jvm.Cond.selects "PingEyeModel" ({ cls := "java/lang/Object", name := "getClass", desc := "()Ljava/lang/Class;" } : Jvm.MethodName) ({ cls := "java/lang/Object", name := "getClass", desc := "()Ljava/lang/Class;" } : Jvm.MethodName)) ∈ lw_all := lw_g (lw_at lw_m5 38 rfl) rfl
theorem q1934 : (Jvm.Cond.instantiable "PingEyeModel" (19 : Nat)) ∈ lw_all := lw_g (lw_at lw_m8 160 rfl) rfl
theorem q1936 : (Jvm.Cond.instanceMethod ({ cls := "PingEyeModel", name := "<init>", desc := "()V" } : Jvm.MethodName)) ∈ lw_all := lw_g (lw_at lw_m8 162 rfl) rfl
theorem q1937 : (Jvm.Cond.code ({ cls := "PingEyeModel", name := "<init>", desc := "()V" } : Jvm.MethodName) prog_10_method_1_code (1 : Nat) (Option.none : Option Jvm.ClassFile.FieldType)) ∈ lw_all := lw_g (lw_at lw_m8 163 rfl) rfl
theorem q1938 : (Jvm.Cond.methodLink "PingEyeModel" (1 : Nat) ({ cls := "java/lang/Object", name := "<init>", desc := "()V" } : Jvm.MethodName)) ∈ lw_all := lw_g (lw_at lw_m8 164 rfl) rfl
theorem q1939 : (Jvm.Cond.fieldLink "PingEyeModel" (30 : Nat) "PingEyeModel" "thrown" "I") ∈ lw_all := lw_g (lw_at lw_m8 165 rfl) rfl
theorem q1940 : (Jvm.Cond.fieldLink "PingEyeModel" (33 : Nat) "PingEyeModel" "isLoaded" "Z") ∈ lw_all := lw_g (lw_at lw_m8 166 rfl) rfl
theorem q1941 : (Jvm.Cond.fieldLink "PingEyeModel" (7 : Nat) "PingEyeModel" "s" "[I") ∈ lw_all := lw_g (lw_at lw_m8 167 rfl) rfl
theorem q1942 : (Jvm.Cond.fieldLink "PingEyeModel" (13 : Nat) "PingEyeModel" "stores" "[I") ∈ lw_all := lw_g (lw_at lw_m8 168 rfl) rfl
theorem q1943 : (Jvm.Cond.fieldLink "PingEyeModel" (253 : Nat) "PingEyeModel" "changes" "I") ∈ lw_all := lw_g (lw_at lw_m8 169 rfl) rfl
theorem q1944 : (Jvm.Cond.fieldLink "PingEyeModel" (16 : Nat) "PingEyeModel" "isKept" "[Z") ∈ lw_all := lw_g (lw_at lw_m8 170 rfl) rfl
theorem q1945 : (Jvm.Cond.fieldLink "PingEyeModel" (20 : Nat) "PingEyeModel" "buffer" "[I") ∈ lw_all := lw_g (lw_at lw_m8 171 rfl) rfl
theorem q1946 : (Jvm.Cond.fieldLink "PingEyeModel" (119 : Nat) "PingEyeModel" "buffered" "I") ∈ lw_all := lw_g (lw_at lw_m8 172 rfl) rfl
theorem q1947 : (Jvm.Cond.fieldLink "PingEyeModel" (122 : Nat) "PingEyeModel" "parseError" "I") ∈ lw_all := lw_g (lw_at lw_m8 173 rfl) rfl
theorem q1948 : (Jvm.Cond.fieldLink "PingEyeModel" (23 : Nat) "PingEyeModel" "errorPosition" "I") ∈ lw_all := lw_g (lw_at lw_m8 174 rfl) rfl
theorem q1949 : (Jvm.Cond.fieldLink "PingEyeModel" (125 : Nat) "PingEyeModel" "length" "I") ∈ lw_all := lw_g (lw_at lw_m8 175 rfl) rfl
theorem q1950 : (Jvm.Cond.fieldLink "PingEyeModel" (128 : Nat) "PingEyeModel" "next" "I") ∈ lw_all := lw_g (lw_at lw_m8 176 rfl) rfl
theorem q1951 : (Jvm.Cond.fieldLink "PingEyeModel" (134 : Nat) "PingEyeModel" "from" "I") ∈ lw_all := lw_g (lw_at lw_m8 177 rfl) rfl
theorem q1952 : (Jvm.Cond.fieldLink "PingEyeModel" (137 : Nat) "PingEyeModel" "sort" "I") ∈ lw_all := lw_g (lw_at lw_m8 178 rfl) rfl
theorem q1953 : (Jvm.Cond.fieldLink "PingEyeModel" (146 : Nat) "PingEyeModel" "number" "I") ∈ lw_all := lw_g (lw_at lw_m8 179 rfl) rfl
theorem q1954 : (Jvm.Cond.fieldLink "PingEyeModel" (149 : Nat) "PingEyeModel" "bad" "I") ∈ lw_all := lw_g (lw_at lw_m8 180 rfl) rfl
theorem q1955 : (Jvm.Cond.fieldLink "PingEyeModel" (152 : Nat) "PingEyeModel" "badAt" "I") ∈ lw_all := lw_g (lw_at lw_m8 181 rfl) rfl
theorem q1956 : (Jvm.Cond.fieldLink "PingEyeModel" (27 : Nat) "PingEyeModel" "text" "[I") ∈ lw_all := lw_g (lw_at lw_m8 182 rfl) rfl
theorem q1957 : (Jvm.Cond.fieldLink "PingEyeModel" (305 : Nat) "PingEyeModel" "textLong" "I") ∈ lw_all := lw_g (lw_at lw_m8 183 rfl) rfl
theorem q1958 : (Jvm.Cond.lays "PingEyeModel" "PingEyeModel" "thrown" "I") ∈ lw_all := lw_g (lw_at lw_m8 184 rfl) rfl
theorem q1959 : (Jvm.Cond.soleField "PingEyeModel" "thrown") ∈ lw_all := lw_g (lw_at lw_m8 185 rfl) rfl
theorem q1960 : (Jvm.Cond.lays "PingEyeModel" "PingEyeModel" "isLoaded" "Z") ∈ lw_all := lw_g (lw_at lw_m8 186 rfl) rfl
theorem q1961 : (Jvm.Cond.soleField "PingEyeModel" "isLoaded") ∈ lw_all := lw_g (lw_at lw_m8 187 rfl) rfl
theorem q1962 : (Jvm.Cond.laysFinal "PingEyeModel" "PingEyeModel" "s" "[I") ∈ lw_all := lw_g (lw_at lw_m8 188 rfl) rfl
theorem q1963 : (Jvm.Cond.soleField "PingEyeModel" "s") ∈ lw_all := lw_g (lw_at lw_m8 189 rfl) rfl
theorem q1964 : (Jvm.Cond.laysFinal "PingEyeModel" "PingEyeModel" "stores" "[I") ∈ lw_all := lw_g (lw_at lw_m8 190 rfl) rfl
theorem q1965 : (Jvm.Cond.soleField "PingEyeModel" "stores") ∈ lw_all := lw_g (lw_at lw_m8 191 rfl) rfl
theorem q1966 : (Jvm.Cond.lays "PingEyeModel" "PingEyeModel" "changes" "I") ∈ lw_all := lw_g (lw_at lw_m8 192 rfl) rfl
theorem q1967 : (Jvm.Cond.soleField "PingEyeModel" "changes") ∈ lw_all := lw_g (lw_at lw_m8 193 rfl) rfl
theorem q1968 : (Jvm.Cond.laysFinal "PingEyeModel" "PingEyeModel" "isKept" "[Z") ∈ lw_all := lw_g (lw_at lw_m8 194 rfl) rfl
theorem q1969 : (Jvm.Cond.soleField "PingEyeModel" "isKept") ∈ lw_all := lw_g (lw_at lw_m8 195 rfl) rfl
theorem q1970 : (Jvm.Cond.laysFinal "PingEyeModel" "PingEyeModel" "buffer" "[I") ∈ lw_all := lw_g (lw_at lw_m8 196 rfl) rfl
theorem q1971 : (Jvm.Cond.soleField "PingEyeModel" "buffer") ∈ lw_all := lw_g (lw_at lw_m8 197 rfl) rfl
theorem q1972 : (Jvm.Cond.lays "PingEyeModel" "PingEyeModel" "buffered" "I") ∈ lw_all := lw_g (lw_at lw_m8 198 rfl) rfl
theorem q1973 : (Jvm.Cond.soleField "PingEyeModel" "buffered") ∈ lw_all := lw_g (lw_at lw_m8 199 rfl) rfl
theorem q1974 : (Jvm.Cond.lays "PingEyeModel" "PingEyeModel" "parseError" "I") ∈ lw_all := lw_g (lw_at lw_m8 200 rfl) rfl
theorem q1975 : (Jvm.Cond.soleField "PingEyeModel" "parseError") ∈ lw_all := lw_g (lw_at lw_m8 201 rfl) rfl
theorem q1976 : (Jvm.Cond.lays "PingEyeModel" "PingEyeModel" "errorPosition" "I") ∈ lw_all := lw_g (lw_at lw_m8 202 rfl) rfl
theorem q1977 : (Jvm.Cond.soleField "PingEyeModel" "errorPosition") ∈ lw_all := lw_g (lw_at lw_m8 203 rfl) rfl
theorem q1978 : (Jvm.Cond.lays "PingEyeModel" "PingEyeModel" "length" "I") ∈ lw_all := lw_g (lw_at lw_m8 204 rfl) rfl
theorem q1979 : (Jvm.Cond.soleField "PingEyeModel" "length") ∈ lw_all := lw_g (lw_at lw_m8 205 rfl) rfl
theorem q1980 : (Jvm.Cond.lays "PingEyeModel" "PingEyeModel" "next" "I") ∈ lw_all := lw_g (lw_at lw_m8 206 rfl) rfl
theorem q1981 : (Jvm.Cond.soleField "PingEyeModel" "next") ∈ lw_all := lw_g (lw_at lw_m8 207 rfl) rfl
theorem q1982 : (Jvm.Cond.lays "PingEyeModel" "PingEyeModel" "from" "I") ∈ lw_all := lw_g (lw_at lw_m8 208 rfl) rfl
theorem q1983 : (Jvm.Cond.soleField "PingEyeModel" "from") ∈ lw_all := lw_g (lw_at lw_m8 209 rfl) rfl
theorem q1984 : (Jvm.Cond.lays "PingEyeModel" "PingEyeModel" "sort" "I") ∈ lw_all := lw_g (lw_at lw_m8 210 rfl) rfl
theorem q1985 : (Jvm.Cond.soleField "PingEyeModel" "sort") ∈ lw_all := lw_g (lw_at lw_m8 211 rfl) rfl
theorem q1986 : (Jvm.Cond.lays "PingEyeModel" "PingEyeModel" "number" "I") ∈ lw_all := lw_g (lw_at lw_m8 212 rfl) rfl
theorem q1987 : (Jvm.Cond.soleField "PingEyeModel" "number") ∈ lw_all := lw_g (lw_at lw_m8 213 rfl) rfl
theorem q1988 : (Jvm.Cond.lays "PingEyeModel" "PingEyeModel" "bad" "I") ∈ lw_all := lw_g (lw_at lw_m8 214 rfl) rfl
theorem q1989 : (Jvm.Cond.soleField "PingEyeModel" "bad") ∈ lw_all := lw_g (lw_at lw_m8 215 rfl) rfl
theorem q1990 : (Jvm.Cond.lays "PingEyeModel" "PingEyeModel" "badAt" "I") ∈ lw_all := lw_g (lw_at lw_m8 216 rfl) rfl
theorem q1991 : (Jvm.Cond.soleField "PingEyeModel" "badAt") ∈ lw_all := lw_g (lw_at lw_m8 217 rfl) rfl
theorem q1992 : (Jvm.Cond.laysFinal "PingEyeModel" "PingEyeModel" "text" "[I") ∈ lw_all := lw_g (lw_at lw_m8 218 rfl) rfl
theorem q1993 : (Jvm.Cond.soleField "PingEyeModel" "text") ∈ lw_all := lw_g (lw_at lw_m8 219 rfl) rfl
theorem q1994 : (Jvm.Cond.lays "PingEyeModel" "PingEyeModel" "textLong" "I") ∈ lw_all := lw_g (lw_at lw_m8 220 rfl) rfl
theorem q1995 : (Jvm.Cond.soleField "PingEyeModel" "textLong") ∈ lw_all := lw_g (lw_at lw_m8 221 rfl) rfl
theorem q1996 : (Jvm.Cond.superclass "PingEyeModel" "java/lang/Object") ∈ lw_all := lw_g (lw_at lw_m8 222 rfl) rfl
theorem q1998 : (Jvm.Cond.instanceMethod ({ cls := "PingEyeModel", name := "thrown", desc := "()I" } : Jvm.MethodName)) ∈ lw_all := lw_g (lw_at lw_m8 224 rfl) rfl
theorem q1999 : (Jvm.Cond.selects "PingEyeModel" ({ cls := "PingEyeModel", name := "thrown", desc := "()I" } : Jvm.MethodName) ({ cls := "PingEyeModel", name := "thrown", desc := "()I" } : Jvm.MethodName)) ∈ lw_all := lw_g (lw_at lw_m8 225 rfl) rfl
theorem q2000 : (Jvm.Cond.code ({ cls := "PingEyeModel", name := "thrown", desc := "()I" } : Jvm.MethodName) prog_10_method_2_code (1 : Nat) (Option.some Jvm.ClassFile.FieldType.int)) ∈ lw_all := lw_g (lw_at lw_m8 226 rfl) rfl
theorem q2002 : (Jvm.Cond.instanceMethod ({ cls := "PingEyeModel", name := "append", desc := "(IIIII)I" } : Jvm.MethodName)) ∈ lw_all := lw_g (lw_at lw_m8 228 rfl) rfl
theorem q2003 : (Jvm.Cond.selects "PingEyeModel" ({ cls := "PingEyeModel", name := "append", desc := "(IIIII)I" } : Jvm.MethodName) ({ cls := "PingEyeModel", name := "append", desc := "(IIIII)I" } : Jvm.MethodName)) ∈ lw_all := lw_g (lw_at lw_m8 229 rfl) rfl
theorem q2004 : (Jvm.Cond.code ({ cls := "PingEyeModel", name := "append", desc := "(IIIII)I" } : Jvm.MethodName) prog_10_method_36_code (8 : Nat) (Option.some Jvm.ClassFile.FieldType.int)) ∈ lw_all := lw_g (lw_at lw_m8 230 rfl) rfl
theorem q2006 : (Jvm.Cond.instanceMethod ({ cls := "PingEyeModel", name := "buffered", desc := "()I" } : Jvm.MethodName)) ∈ lw_all := lw_g (lw_at lw_m8 232 rfl) rfl
theorem q2007 : (Jvm.Cond.selects "PingEyeModel" ({ cls := "PingEyeModel", name := "buffered", desc := "()I" } : Jvm.MethodName) ({ cls := "PingEyeModel", name := "buffered", desc := "()I" } : Jvm.MethodName)) ∈ lw_all := lw_g (lw_at lw_m8 233 rfl) rfl
theorem q2008 : (Jvm.Cond.code ({ cls := "PingEyeModel", name := "buffered", desc := "()I" } : Jvm.MethodName) prog_10_method_37_code (1 : Nat) (Option.some Jvm.ClassFile.FieldType.int)) ∈ lw_all := lw_g (lw_at lw_m8 234 rfl) rfl
theorem q2010 : (Jvm.Cond.instanceMethod ({ cls := "PingEyeModel", name := "parseError", desc := "()I" } : Jvm.MethodName)) ∈ lw_all := lw_g (lw_at lw_m8 236 rfl) rfl
theorem q2011 : (Jvm.Cond.selects "PingEyeModel" ({ cls := "PingEyeModel", name := "parseError", desc := "()I" } : Jvm.MethodName) ({ cls := "PingEyeModel", name := "parseError", desc := "()I" } : Jvm.MethodName)) ∈ lw_all := lw_g (lw_at lw_m8 237 rfl) rfl
theorem q2012 : (Jvm.Cond.code ({ cls := "PingEyeModel", name := "parseError", desc := "()I" } : Jvm.MethodName) prog_10_method_38_code (1 : Nat) (Option.some Jvm.ClassFile.FieldType.int)) ∈ lw_all := lw_g (lw_at lw_m8 238 rfl) rfl
theorem q2014 : (Jvm.Cond.instanceMethod ({ cls := "PingEyeModel", name := "errorPosition", desc := "()I" } : Jvm.MethodName)) ∈ lw_all := lw_g (lw_at lw_m9 0 rfl) rfl
theorem q2015 : (Jvm.Cond.selects "PingEyeModel" ({ cls := "PingEyeModel", name := "errorPosition", desc := "()I" } : Jvm.MethodName) ({ cls := "PingEyeModel", name := "errorPosition", desc := "()I" } : Jvm.MethodName)) ∈ lw_all := lw_g (lw_at lw_m9 1 rfl) rfl
theorem q2016 : (Jvm.Cond.code ({ cls := "PingEyeModel", name := "errorPosition", desc := "()I" } : Jvm.MethodName) prog_10_method_39_code (1 : Nat) (Option.some Jvm.ClassFile.FieldType.int)) ∈ lw_all := lw_g (lw_at lw_m9 2 rfl) rfl
theorem q2018 : (Jvm.Cond.instanceMethod ({ cls := "PingEyeModel", name := "load", desc := "(I)I" } : Jvm.MethodName)) ∈ lw_all := lw_g (lw_at lw_m9 4 rfl) rfl
theorem q2019 : (Jvm.Cond.selects "PingEyeModel" ({ cls := "PingEyeModel", name := "load", desc := "(I)I" } : Jvm.MethodName) ({ cls := "PingEyeModel", name := "load", desc := "(I)I" } : Jvm.MethodName)) ∈ lw_all := lw_g (lw_at lw_m9 5 rfl) rfl
theorem q2020 : (Jvm.Cond.code ({ cls := "PingEyeModel", name := "load", desc := "(I)I" } : Jvm.MethodName) prog_10_method_58_code (2 : Nat) (Option.some Jvm.ClassFile.FieldType.int)) ∈ lw_all := lw_g (lw_at lw_m9 6 rfl) rfl
theorem q2021 : (Jvm.Cond.methodLink "PingEyeModel" (170 : Nat) ({ cls := "PingEyeModel", name := "in", desc := "(JJJ)Z" } : Jvm.MethodName)) ∈ lw_all := lw_g (lw_at lw_m9 7 rfl) rfl
theorem q2022 : (Jvm.Cond.static ({ cls := "PingEyeModel", name := "in", desc := "(JJJ)Z" } : Jvm.MethodName)) ∈ lw_all := lw_g (lw_at lw_m9 8 rfl) rfl
theorem q2023 : (Jvm.Cond.code ({ cls := "PingEyeModel", name := "in", desc := "(JJJ)Z" } : Jvm.MethodName) prog_10_method_3_code (6 : Nat) (Option.some Jvm.ClassFile.FieldType.boolean)) ∈ lw_all := lw_g (lw_at lw_m9 9 rfl) rfl
theorem q2024 : (Jvm.Cond.methodLink "PingEyeModel" (37 : Nat) ({ cls := "PingEyeModel", name := "refuse", desc := "(ZI)Z" } : Jvm.MethodName)) ∈ lw_all := lw_g (lw_at lw_m9 10 rfl) rfl
theorem q2025 : (Jvm.Cond.privateMethod ({ cls := "PingEyeModel", name := "refuse", desc := "(ZI)Z" } : Jvm.MethodName)) ∈ lw_tbl := lw_at lw_m9 11 rfl
theorem q2026 : (Jvm.Cond.instanceMethod ({ cls := "PingEyeModel", name := "refuse", desc := "(ZI)Z" } : Jvm.MethodName)) ∈ lw_all := lw_g (lw_at lw_m9 12 rfl) rfl
theorem q2027 : (Jvm.Cond.code ({ cls := "PingEyeModel", name := "refuse", desc := "(ZI)Z" } : Jvm.MethodName) prog_10_method_5_code (3 : Nat) (Option.some Jvm.ClassFile.FieldType.boolean)) ∈ lw_all := lw_g (lw_at lw_m9 13 rfl) rfl
theorem q2028 : (Jvm.Cond.methodLink "PingEyeModel" (244 : Nat) ({ cls := "PingEyeModel", name := "laysAside", desc := "()V" } : Jvm.MethodName)) ∈ lw_all := lw_g (lw_at lw_m9 14 rfl) rfl
theorem q2029 : (Jvm.Cond.privateMethod ({ cls := "PingEyeModel", name := "laysAside", desc := "()V" } : Jvm.MethodName)) ∈ lw_tbl := lw_at lw_m9 15 rfl
theorem q2030 : (Jvm.Cond.instanceMethod ({ cls := "PingEyeModel", name := "laysAside", desc := "()V" } : Jvm.MethodName)) ∈ lw_all := lw_g (lw_at lw_m9 16 rfl) rfl
theorem q2031 : (Jvm.Cond.code ({ cls := "PingEyeModel", name := "laysAside", desc := "()V" } : Jvm.MethodName) prog_10_method_8_code (1 : Nat) (Option.none : Option Jvm.ClassFile.FieldType)) ∈ lw_all := lw_g (lw_at lw_m9 17 rfl) rfl
theorem q2032 : (Jvm.Cond.methodLink "PingEyeModel" (41 : Nat) ({ cls := "PingEyeModel", name := "copies", desc := "([II[II)V" } : Jvm.MethodName)) ∈ lw_all := lw_g (lw_at lw_m9 18 rfl) rfl
theorem q2033 : (Jvm.Cond.static ({ cls := "PingEyeModel", name := "copies", desc := "([II[II)V" } : Jvm.MethodName)) ∈ lw_all := lw_g (lw_at lw_m9 19 rfl) rfl
theorem q2034 : (Jvm.Cond.code ({ cls := "PingEyeModel", name := "copies", desc := "([II[II)V" } : Jvm.MethodName) prog_10_method_7_code (5 : Nat) (Option.none : Option Jvm.ClassFile.FieldType)) ∈ lw_all := lw_g (lw_at lw_m9 20 rfl) rfl
theorem q2035 : (Jvm.Cond.methodLink "PingEyeModel" (159 : Nat) ({ cls := "PingEyeModel", name := "token", desc := "()V" } : Jvm.MethodName)) ∈ lw_all := lw_g (lw_at lw_m9 21 rfl) rfl
theorem q2036 : (Jvm.Cond.privateMethod ({ cls := "PingEyeModel", name := "token", desc := "()V" } : Jvm.MethodName)) ∈ lw_tbl := lw_at lw_m9 22 rfl
theorem q2037 : (Jvm.Cond.instanceMethod ({ cls := "PingEyeModel", name := "token", desc := "()V" } : Jvm.MethodName)) ∈ lw_all := lw_g (lw_at lw_m9 23 rfl) rfl
theorem q2038 : (Jvm.Cond.code ({ cls := "PingEyeModel", name := "token", desc := "()V" } : Jvm.MethodName) prog_10_method_43_code (2 : Nat) (Option.none : Option Jvm.ClassFile.FieldType)) ∈ lw_all := lw_g (lw_at lw_m9 24 rfl) rfl
theorem q2039 : (Jvm.Cond.methodLink "PingEyeModel" (131 : Nat) ({ cls := "PingEyeModel", name := "seen", desc := "(I)I" } : Jvm.MethodName)) ∈ lw_all := lw_g (lw_at lw_m9 25 rfl) rfl
theorem q2040 : (Jvm.Cond.privateMethod ({ cls := "PingEyeModel", name := "seen", desc := "(I)I" } : Jvm.MethodName)) ∈ lw_tbl := lw_at lw_m9 26 rfl
theorem q2041 : (Jvm.Cond.instanceMethod ({ cls := "PingEyeModel", name := "seen", desc := "(I)I" } : Jvm.MethodName)) ∈ lw_all := lw_g (lw_at lw_m9 27 rfl) rfl
theorem q2042 : (Jvm.Cond.code ({ cls := "PingEyeModel", name := "seen", desc := "(I)I" } : Jvm.MethodName) prog_10_method_40_code (2 : Nat) (Option.some Jvm.ClassFile.FieldType.int)) ∈ lw_all := lw_g (lw_at lw_m9 28 rfl) rfl
theorem q2043 : (Jvm.Cond.methodLink "PingEyeModel" (140 : Nat) ({ cls := "PingEyeModel", name := "isSmall", desc := "(I)Z" } : Jvm.MethodName)) ∈ lw_all := lw_g (lw_at lw_m9 29 rfl) rfl
theorem q2044 : (Jvm.Cond.static ({ cls := "PingEyeModel", name := "isSmall", desc := "(I)Z" } : Jvm.MethodName)) ∈ lw_all := lw_g (lw_at lw_m9 30 rfl) rfl
theorem q2045 : (Jvm.Cond.code ({ cls := "PingEyeModel", name := "isSmall", desc := "(I)Z" } : Jvm.MethodName) prog_10_method_41_code (1 : Nat) (Option.some Jvm.ClassFile.FieldType.boolean)) ∈ lw_all := lw_g (lw_at lw_m9 31 rfl) rfl
theorem q2046 : (Jvm.Cond.methodLink "PingEyeModel" (143 : Nat) ({ cls := "PingEyeModel", name := "isDigit", desc := "(I)Z" } : Jvm.MethodName)) ∈ lw_all := lw_g (lw_at lw_m9 32 rfl) rfl
theorem q2047 : (Jvm.Cond.static ({ cls := "PingEyeModel", name := "isDigit", desc := "(I)Z" } : Jvm.MethodName)) ∈ lw_all := lw_g (lw_at lw_m9 33 rfl) rfl
theorem q2048 : (Jvm.Cond.code ({ cls := "PingEyeModel", name := "isDigit", desc := "(I)Z" } : Jvm.MethodName) prog_10_method_42_code (1 : Nat) (Option.some Jvm.ClassFile.FieldType.boolean)) ∈ lw_all := lw_g (lw_at lw_m9 34 rfl) rfl
theorem q2049 : (Jvm.Cond.methodLink "PingEyeModel" (247 : Nat) ({ cls := "PingEyeModel", name := "reads", desc := "()V" } : Jvm.MethodName)) ∈ lw_all := lw_g (lw_at lw_m9 35 rfl) rfl
theorem q2050 : (Jvm.Cond.privateMethod ({ cls := "PingEyeModel", name := "reads", desc := "()V" } : Jvm.MethodName)) ∈ lw_tbl := lw_at lw_m9 36 rfl
theorem q2051 : (Jvm.Cond.instanceMethod ({ cls := "PingEyeModel", name := "reads", desc := "()V" } : Jvm.MethodName)) ∈ lw_all := lw_g (lw_at lw_m9 37 rfl) rfl
theorem q2052 : (Jvm.Cond.code ({ cls := "PingEyeModel", name := "reads", desc := "()V" } : Jvm.MethodName) prog_10_method_57_code (2 : Nat) (Option.none : Option Jvm.ClassFile.FieldType)) ∈ lw_all := lw_g (lw_at lw_m9 38 rfl) rfl
theorem q2053 : (Jvm.Cond.stringRef "PingEyeModel" (237 : Nat) "silo") ∈ lw_tbl := lw_at lw_m9 39 rfl
theorem q2054 : (Jvm.Cond.methodLink "PingEyeModel" (201 : Nat) ({ cls := "PingEyeModel", name := "isWord", desc := "(Ljava/lang/String;)Z" } : Jvm.MethodName)) ∈ lw_all := lw_g (lw_at lw_m9 40 rfl) rfl
theorem q2055 : (Jvm.Cond.privateMethod ({ cls := "PingEyeModel", name := "isWord", desc := "(Ljava/lang/String;)Z" } : Jvm.MethodName)) ∈ lw_tbl := lw_at lw_m9 41 rfl
theorem q2056 : (Jvm.Cond.instanceMethod ({ cls := "PingEyeModel", name := "isWord", desc := "(Ljava/lang/String;)Z" } : Jvm.MethodName)) ∈ lw_all := lw_g (lw_at lw_m9 42 rfl) rfl
theorem q2057 : (Jvm.Cond.code ({ cls := "PingEyeModel", name := "isWord", desc := "(Ljava/lang/String;)Z" } : Jvm.MethodName) prog_10_method_47_code (3 : Nat) (Option.some Jvm.ClassFile.FieldType.boolean)) ∈ lw_all := lw_g (lw_at lw_m9 43 rfl) rfl
theorem q2058 : (Jvm.Cond.methodLink "PingEyeModel" (162 : Nat) ({ cls := "java/lang/String", name := "length", desc := "()I" } : Jvm.MethodName)) ∈ lw_all := lw_g (lw_at lw_m9 44 rfl) rfl
theorem q2059 : (Jvm.Cond.methodLink "PingEyeModel" (166 : Nat) ({ cls := "java/lang/String", name := "charAt", desc := "(I)C" } : Jvm.MethodName)) ∈ lw_all := lw_g (lw_at lw_m9 45 rfl) rfl
theorem q2060 : (Jvm.Cond.methodLink "PingEyeModel" (189 : Nat) ({ cls := "PingEyeModel", name := "failsIf", desc := "(ZI)V" } : Jvm.MethodName)) ∈ lw_all := lw_g (lw_at lw_m9 46 rfl) rfl
theorem q2061 : (Jvm.Cond.privateMethod ({ cls := "PingEyeModel", name := "failsIf", desc := "(ZI)V" } : Jvm.MethodName)) ∈ lw_tbl := lw_at lw_m9 47 rfl
theorem q2062 : (Jvm.Cond.instanceMethod ({ cls := "PingEyeModel", name := "failsIf", desc := "(ZI)V" } : Jvm.MethodName)) ∈ lw_all := lw_g (lw_at lw_m9 48 rfl) rfl
theorem q2063 : (Jvm.Cond.code ({ cls := "PingEyeModel", name := "failsIf", desc := "(ZI)V" } : Jvm.MethodName) prog_10_method_45_code (3 : Nat) (Option.none : Option Jvm.ClassFile.FieldType)) ∈ lw_all := lw_g (lw_at lw_m9 49 rfl) rfl
theorem q2064 : (Jvm.Cond.methodLink "PingEyeModel" (155 : Nat) ({ cls := "PingEyeModel", name := "fails", desc := "(I)V" } : Jvm.MethodName)) ∈ lw_all := lw_g (lw_at lw_m9 50 rfl) rfl
theorem q2065 : (Jvm.Cond.privateMethod ({ cls := "PingEyeModel", name := "fails", desc := "(I)V" } : Jvm.MethodName)) ∈ lw_tbl := lw_at lw_m9 51 rfl
theorem q2066 : (Jvm.Cond.instanceMethod ({ cls := "PingEyeModel", name := "fails", desc := "(I)V" } : Jvm.MethodName)) ∈ lw_all := lw_g (lw_at lw_m9 52 rfl) rfl
theorem q2067 : (Jvm.Cond.code ({ cls := "PingEyeModel", name := "fails", desc := "(I)V" } : Jvm.MethodName) prog_10_method_44_code (2 : Nat) (Option.none : Option Jvm.ClassFile.FieldType)) ∈ lw_all := lw_g (lw_at lw_m9 53 rfl) rfl
theorem q2068 : (Jvm.Cond.methodLink "PingEyeModel" (177 : Nat) ({ cls := "PingEyeModel", name := "goesOn", desc := "()V" } : Jvm.MethodName)) ∈ lw_all := lw_g (lw_at lw_m9 54 rfl) rfl
theorem q2069 : (Jvm.Cond.privateMethod ({ cls := "PingEyeModel", name := "goesOn", desc := "()V" } : Jvm.MethodName)) ∈ lw_tbl := lw_at lw_m9 55 rfl
theorem q2070 : (Jvm.Cond.instanceMethod ({ cls := "PingEyeModel", name := "goesOn", desc := "()V" } : Jvm.MethodName)) ∈ lw_all := lw_g (lw_at lw_m9 56 rfl) rfl
theorem q2071 : (Jvm.Cond.code ({ cls := "PingEyeModel", name := "goesOn", desc := "()V" } : Jvm.MethodName) prog_10_method_46_code (1 : Nat) (Option.none : Option Jvm.ClassFile.FieldType)) ∈ lw_all := lw_g (lw_at lw_m9 57 rfl) rfl
theorem q2072 : (Jvm.Cond.methodLink "PingEyeModel" (186 : Nat) ({ cls := "PingEyeModel", name := "takes", desc := "(II)I" } : Jvm.MethodName)) ∈ lw_all := lw_g (lw_at lw_m9 58 rfl) rfl
theorem q2073 : (Jvm.Cond.privateMethod ({ cls := "PingEyeModel", name := "takes", desc := "(II)I" } : Jvm.MethodName)) ∈ lw_tbl := lw_at lw_m9 59 rfl
theorem q2074 : (Jvm.Cond.instanceMethod ({ cls := "PingEyeModel", name := "takes", desc := "(II)I" } : Jvm.MethodName)) ∈ lw_all := lw_g (lw_at lw_m9 60 rfl) rfl
theorem q2075 : (Jvm.Cond.code ({ cls := "PingEyeModel", name := "takes", desc := "(II)I" } : Jvm.MethodName) prog_10_method_49_code (4 : Nat) (Option.some Jvm.ClassFile.FieldType.int)) ∈ lw_all := lw_g (lw_at lw_m9 61 rfl) rfl
theorem q2076 : (Jvm.Cond.methodLink "PingEyeModel" (174 : Nat) ({ cls := "PingEyeModel", name := "looks", desc := "(II)I" } : Jvm.MethodName)) ∈ lw_all := lw_g (lw_at lw_m9 62 rfl) rfl
theorem q2077 : (Jvm.Cond.privateMethod ({ cls := "PingEyeModel", name := "looks", desc := "(II)I" } : Jvm.MethodName)) ∈ lw_tbl := lw_at lw_m9 63 rfl
theorem q2078 : (Jvm.Cond.instanceMethod ({ cls := "PingEyeModel", name := "looks", desc := "(II)I" } : Jvm.MethodName)) ∈ lw_all := lw_g (lw_at lw_m9 64 rfl) rfl
theorem q2079 : (Jvm.Cond.code ({ cls := "PingEyeModel", name := "looks", desc := "(II)I" } : Jvm.MethodName) prog_10_method_48_code (3 : Nat) (Option.some Jvm.ClassFile.FieldType.int)) ∈ lw_all := lw_g (lw_at lw_m9 65 rfl) rfl
theorem q2080 : (Jvm.Cond.methodLink "PingEyeModel" (183 : Nat) ({ cls := "PingEyeModel", name := "column0", desc := "()I" } : Jvm.MethodName)) ∈ lw_all := lw_g (lw_at lw_m9 66 rfl) rfl
theorem q2081 : (Jvm.Cond.privateMethod ({ cls := "PingEyeModel", name := "column0", desc := "()I" } : Jvm.MethodName)) ∈ lw_tbl := lw_at lw_m9 67 rfl
theorem q2082 : (Jvm.Cond.instanceMethod ({ cls := "PingEyeModel", name := "column0", desc := "()I" } : Jvm.MethodName)) ∈ lw_all := lw_g (lw_at lw_m9 68 rfl) rfl
theorem q2083 : (Jvm.Cond.code ({ cls := "PingEyeModel", name := "column0", desc := "()I" } : Jvm.MethodName) prog_10_method_51_code (2 : Nat) (Option.some Jvm.ClassFile.FieldType.int)) ∈ lw_all := lw_g (lw_at lw_m9 69 rfl) rfl
theorem q2084 : (Jvm.Cond.methodLink "PingEyeModel" (180 : Nat) ({ cls := "PingEyeModel", name := "columnHere", desc := "()I" } : Jvm.MethodName)) ∈ lw_all := lw_g (lw_at lw_m9 70 rfl) rfl
theorem q2085 : (Jvm.Cond.privateMethod ({ cls := "PingEyeModel", name := "columnHere", desc := "()I" } : Jvm.MethodName)) ∈ lw_tbl := lw_at lw_m9 71 rfl
theorem q2086 : (Jvm.Cond.instanceMethod ({ cls := "PingEyeModel", name := "columnHere", desc := "()I" } : Jvm.MethodName)) ∈ lw_all := lw_g (lw_at lw_m9 72 rfl) rfl
theorem q2087 : (Jvm.Cond.code ({ cls := "PingEyeModel", name := "columnHere", desc := "()I" } : Jvm.MethodName) prog_10_method_50_code (1 : Nat) (Option.some Jvm.ClassFile.FieldType.int)) ∈ lw_all := lw_g (lw_at lw_m9 73 rfl) rfl
theorem q2088 : (Jvm.Cond.methodLink "PingEyeModel" (45 : Nat) ({ cls := "PingEyeModel", name := "columns", desc := "()I" } : Jvm.MethodName)) ∈ lw_all := lw_g (lw_at lw_m9 74 rfl) rfl
theorem q2089 : (Jvm.Cond.privateMethod ({ cls := "PingEyeModel", name := "columns", desc := "()I" } : Jvm.MethodName)) ∈ lw_tbl := lw_at lw_m9 75 rfl
theorem q2090 : (Jvm.Cond.instanceMethod ({ cls := "PingEyeModel", name := "columns", desc := "()I" } : Jvm.MethodName)) ∈ lw_all := lw_g (lw_at lw_m9 76 rfl) rfl
theorem q2091 : (Jvm.Cond.code ({ cls := "PingEyeModel", name := "columns", desc := "()I" } : Jvm.MethodName) prog_10_method_10_code (1 : Nat) (Option.some Jvm.ClassFile.FieldType.int)) ∈ lw_all := lw_g (lw_at lw_m9 77 rfl) rfl
theorem q2092 : (Jvm.Cond.stringRef "PingEyeModel" (239 : Nat) "eye") ∈ lw_tbl := lw_at lw_m9 78 rfl
theorem q2093 : (Jvm.Cond.methodLink "PingEyeModel" (241 : Nat) ({ cls := "PingEyeModel", name := "line", desc := "()V" } : Jvm.MethodName)) ∈ lw_all := lw_g (lw_at lw_m9 79 rfl) rfl
theorem q2094 : (Jvm.Cond.privateMethod ({ cls := "PingEyeModel", name := "line", desc := "()V" } : Jvm.MethodName)) ∈ lw_tbl := lw_at lw_m9 80 rfl
theorem q2095 : (Jvm.Cond.instanceMethod ({ cls := "PingEyeModel", name := "line", desc := "()V" } : Jvm.MethodName)) ∈ lw_all := lw_g (lw_at lw_m9 81 rfl) rfl
theorem q2096 : (Jvm.Cond.code ({ cls := "PingEyeModel", name := "line", desc := "()V" } : Jvm.MethodName) prog_10_method_56_code (3 : Nat) (Option.none : Option Jvm.ClassFile.FieldType)) ∈ lw_all := lw_g (lw_at lw_m9 82 rfl) rfl
theorem q2097 : (Jvm.Cond.stringRef "PingEyeModel" (199 : Nat) "heap") ∈ lw_tbl := lw_at lw_m9 83 rfl
theorem q2098 : (Jvm.Cond.methodLink "PingEyeModel" (205 : Nat) ({ cls := "PingEyeModel", name := "heapLine", desc := "()V" } : Jvm.MethodName)) ∈ lw_all := lw_g (lw_at lw_m9 84 rfl) rfl
theorem q2099 : (Jvm.Cond.privateMethod ({ cls := "PingEyeModel", name := "heapLine", desc := "()V" } : Jvm.MethodName)) ∈ lw_tbl := lw_at lw_m9 85 rfl
theorem q2100 : (Jvm.Cond.instanceMethod ({ cls := "PingEyeModel", name := "heapLine", desc := "()V" } : Jvm.MethodName)) ∈ lw_all := lw_g (lw_at lw_m9 86 rfl) rfl
theorem q2101 : (Jvm.Cond.code ({ cls := "PingEyeModel", name := "heapLine", desc := "()V" } : Jvm.MethodName) prog_10_method_52_code (5 : Nat) (Option.none : Option Jvm.ClassFile.FieldType)) ∈ lw_all := lw_g (lw_at lw_m9 87 rfl) rfl
theorem q2102 : (Jvm.Cond.methodLink "PingEyeModel" (60 : Nat) ({ cls := "PingEyeModel", name := "depth", desc := "()I" } : Jvm.MethodName)) ∈ lw_all := lw_g (lw_at lw_m9 88 rfl) rfl
theorem q2103 : (Jvm.Cond.privateMethod ({ cls := "PingEyeModel", name := "depth", desc := "()I" } : Jvm.MethodName)) ∈ lw_tbl := lw_at lw_m9 89 rfl
theorem q2104 : (Jvm.Cond.instanceMethod ({ cls := "PingEyeModel", name := "depth", desc := "()I" } : Jvm.MethodName)) ∈ lw_all := lw_g (lw_at lw_m9 90 rfl) rfl
theorem q2105 : (Jvm.Cond.code ({ cls := "PingEyeModel", name := "depth", desc := "()I" } : Jvm.MethodName) prog_10_method_11_code (1 : Nat) (Option.some Jvm.ClassFile.FieldType.int)) ∈ lw_all := lw_g (lw_at lw_m9 91 rfl) rfl
theorem q2106 : (Jvm.Cond.methodLink "PingEyeModel" (49 : Nat) ({ cls := "PingEyeModel", name := "high", desc := "(I)I" } : Jvm.MethodName)) ∈ lw_all := lw_g (lw_at lw_m9 92 rfl) rfl
theorem q2107 : (Jvm.Cond.privateMethod ({ cls := "PingEyeModel", name := "high", desc := "(I)I" } : Jvm.MethodName)) ∈ lw_tbl := lw_at lw_m9 93 rfl
theorem q2108 : (Jvm.Cond.instanceMethod ({ cls := "PingEyeModel", name := "high", desc := "(I)I" } : Jvm.MethodName)) ∈ lw_all := lw_g (lw_at lw_m9 94 rfl) rfl
theorem q2109 : (Jvm.Cond.code ({ cls := "PingEyeModel", name := "high", desc := "(I)I" } : Jvm.MethodName) prog_10_method_12_code (2 : Nat) (Option.some Jvm.ClassFile.FieldType.int)) ∈ lw_all := lw_g (lw_at lw_m9 95 rfl) rfl
theorem q2110 : (Jvm.Cond.methodLink "PingEyeModel" (63 : Nat) ({ cls := "java/lang/Math", name := "min", desc := "(II)I" } : Jvm.MethodName)) ∈ lw_all := lw_g (lw_at lw_m9 96 rfl) rfl
theorem q2111 : (Jvm.Cond.methodLink "PingEyeModel" (69 : Nat) ({ cls := "PingEyeModel", name := "slides", desc := "()I" } : Jvm.MethodName)) ∈ lw_all := lw_g (lw_at lw_m9 97 rfl) rfl
theorem q2112 : (Jvm.Cond.privateMethod ({ cls := "PingEyeModel", name := "slides", desc := "()I" } : Jvm.MethodName)) ∈ lw_tbl := lw_at lw_m9 98 rfl
theorem q2113 : (Jvm.Cond.instanceMethod ({ cls := "PingEyeModel", name := "slides", desc := "()I" } : Jvm.MethodName)) ∈ lw_all := lw_g (lw_at lw_m9 99 rfl) rfl
theorem q2114 : (Jvm.Cond.code ({ cls := "PingEyeModel", name := "slides", desc := "()I" } : Jvm.MethodName) prog_10_method_16_code (4 : Nat) (Option.some Jvm.ClassFile.FieldType.int)) ∈ lw_all := lw_g (lw_at lw_m9 100 rfl) rfl
theorem q2115 : (Jvm.Cond.methodLink "PingEyeModel" (56 : Nat) ({ cls := "PingEyeModel", name := "canSlide", desc := "(I)Z" } : Jvm.MethodName)) ∈ lw_all := lw_g (lw_at lw_m9 101 rfl) rfl
theorem q2116 : (Jvm.Cond.privateMethod ({ cls := "PingEyeModel", name := "canSlide", desc := "(I)Z" } : Jvm.MethodName)) ∈ lw_tbl := lw_at lw_m9 102 rfl
theorem q2117 : (Jvm.Cond.instanceMethod ({ cls := "PingEyeModel", name := "canSlide", desc := "(I)Z" } : Jvm.MethodName)) ∈ lw_all := lw_g (lw_at lw_m9 103 rfl) rfl
theorem q2118 : (Jvm.Cond.code ({ cls := "PingEyeModel", name := "canSlide", desc := "(I)Z" } : Jvm.MethodName) prog_10_method_15_code (2 : Nat) (Option.some Jvm.ClassFile.FieldType.boolean)) ∈ lw_all := lw_g (lw_at lw_m9 104 rfl) rfl
theorem q2119 : (Jvm.Cond.methodLink "PingEyeModel" (53 : Nat) ({ cls := "PingEyeModel", name := "goal", desc := "(I)I" } : Jvm.MethodName)) ∈ lw_all := lw_g (lw_at lw_m9 105 rfl) rfl
theorem q2120 : (Jvm.Cond.privateMethod ({ cls := "PingEyeModel", name := "goal", desc := "(I)I" } : Jvm.MethodName)) ∈ lw_tbl := lw_at lw_m9 106 rfl
theorem q2121 : (Jvm.Cond.instanceMethod ({ cls := "PingEyeModel", name := "goal", desc := "(I)I" } : Jvm.MethodName)) ∈ lw_all := lw_g (lw_at lw_m9 107 rfl) rfl
theorem q2122 : (Jvm.Cond.code ({ cls := "PingEyeModel", name := "goal", desc := "(I)I" } : Jvm.MethodName) prog_10_method_14_code (3 : Nat) (Option.some Jvm.ClassFile.FieldType.int)) ∈ lw_all := lw_g (lw_at lw_m9 108 rfl) rfl
theorem q2123 : (Jvm.Cond.stringRef "PingEyeModel" (208 : Nat) "bar") ∈ lw_tbl := lw_at lw_m9 109 rfl
theorem q2124 : (Jvm.Cond.methodLink "PingEyeModel" (210 : Nat) ({ cls := "PingEyeModel", name := "barLine", desc := "()V" } : Jvm.MethodName)) ∈ lw_all := lw_g (lw_at lw_m9 110 rfl) rfl
theorem q2125 : (Jvm.Cond.privateMethod ({ cls := "PingEyeModel", name := "barLine", desc := "()V" } : Jvm.MethodName)) ∈ lw_tbl := lw_at lw_m9 111 rfl
theorem q2126 : (Jvm.Cond.instanceMethod ({ cls := "PingEyeModel", name := "barLine", desc := "()V" } : Jvm.MethodName)) ∈ lw_all := lw_g (lw_at lw_m9 112 rfl) rfl
theorem q2127 : (Jvm.Cond.code ({ cls := "PingEyeModel", name := "barLine", desc := "()V" } : Jvm.MethodName) prog_10_method_53_code (3 : Nat) (Option.none : Option Jvm.ClassFile.FieldType)) ∈ lw_all := lw_g (lw_at lw_m9 113 rfl) rfl
theorem q2128 : (Jvm.Cond.methodLink "PingEyeModel" (89 : Nat) ({ cls := "PingEyeModel", name := "barWay", desc := "(I)I" } : Jvm.MethodName)) ∈ lw_all := lw_g (lw_at lw_m9 114 rfl) rfl
theorem q2129 : (Jvm.Cond.privateMethod ({ cls := "PingEyeModel", name := "barWay", desc := "(I)I" } : Jvm.MethodName)) ∈ lw_tbl := lw_at lw_m9 115 rfl
theorem q2130 : (Jvm.Cond.instanceMethod ({ cls := "PingEyeModel", name := "barWay", desc := "(I)I" } : Jvm.MethodName)) ∈ lw_all := lw_g (lw_at lw_m9 116 rfl) rfl
theorem q2131 : (Jvm.Cond.code ({ cls := "PingEyeModel", name := "barWay", desc := "(I)I" } : Jvm.MethodName) prog_10_method_27_code (2 : Nat) (Option.some Jvm.ClassFile.FieldType.int)) ∈ lw_all := lw_g (lw_at lw_m9 117 rfl) rfl
theorem q2132 : (Jvm.Cond.stringRef "PingEyeModel" (213 : Nat) "stuck") ∈ lw_tbl := lw_at lw_m9 118 rfl
theorem q2133 : (Jvm.Cond.stringRef "PingEyeModel" (215 : Nat) "fill") ∈ lw_tbl := lw_at lw_m9 119 rfl
theorem q2134 : (Jvm.Cond.methodLink "PingEyeModel" (217 : Nat) ({ cls := "PingEyeModel", name := "fillLine", desc := "()V" } : Jvm.MethodName)) ∈ lw_all := lw_g (lw_at lw_m9 120 rfl) rfl
theorem q2135 : (Jvm.Cond.privateMethod ({ cls := "PingEyeModel", name := "fillLine", desc := "()V" } : Jvm.MethodName)) ∈ lw_tbl := lw_at lw_m9 121 rfl
theorem q2136 : (Jvm.Cond.instanceMethod ({ cls := "PingEyeModel", name := "fillLine", desc := "()V" } : Jvm.MethodName)) ∈ lw_all := lw_g (lw_at lw_m9 122 rfl) rfl
theorem q2137 : (Jvm.Cond.code ({ cls := "PingEyeModel", name := "fillLine", desc := "()V" } : Jvm.MethodName) prog_10_method_54_code (4 : Nat) (Option.none : Option Jvm.ClassFile.FieldType)) ∈ lw_all := lw_g (lw_at lw_m9 123 rfl) rfl
theorem q2138 : (Jvm.Cond.methodLink "PingEyeModel" (193 : Nat) ({ cls := "PingEyeModel", name := "fills", desc := "(II)I" } : Jvm.MethodName)) ∈ lw_all := lw_g (lw_at lw_m9 124 rfl) rfl
theorem q2139 : (Jvm.Cond.privateMethod ({ cls := "PingEyeModel", name := "fills", desc := "(II)I" } : Jvm.MethodName)) ∈ lw_tbl := lw_at lw_m9 125 rfl
theorem q2140 : (Jvm.Cond.instanceMethod ({ cls := "PingEyeModel", name := "fills", desc := "(II)I" } : Jvm.MethodName)) ∈ lw_all := lw_g (lw_at lw_m9 126 rfl) rfl
theorem q2141 : (Jvm.Cond.code ({ cls := "PingEyeModel", name := "fills", desc := "(II)I" } : Jvm.MethodName) prog_10_method_18_code (5 : Nat) (Option.some Jvm.ClassFile.FieldType.int)) ∈ lw_all := lw_g (lw_at lw_m9 127 rfl) rfl
theorem q2142 : (Jvm.Cond.methodLink "PingEyeModel" (72 : Nat) ({ cls := "PingEyeModel", name := "fillsOne", desc := "(I)Z" } : Jvm.MethodName)) ∈ lw_all := lw_g (lw_at lw_m9 128 rfl) rfl
theorem q2143 : (Jvm.Cond.privateMethod ({ cls := "PingEyeModel", name := "fillsOne", desc := "(I)Z" } : Jvm.MethodName)) ∈ lw_tbl := lw_at lw_m9 129 rfl
theorem q2144 : (Jvm.Cond.instanceMethod ({ cls := "PingEyeModel", name := "fillsOne", desc := "(I)Z" } : Jvm.MethodName)) ∈ lw_all := lw_g (lw_at lw_m9 130 rfl) rfl
theorem q2145 : (Jvm.Cond.code ({ cls := "PingEyeModel", name := "fillsOne", desc := "(I)Z" } : Jvm.MethodName) prog_10_method_17_code (3 : Nat) (Option.some Jvm.ClassFile.FieldType.boolean)) ∈ lw_all := lw_g (lw_at lw_m9 131 rfl) rfl
theorem q2146 : (Jvm.Cond.methodLink "PingEyeModel" (75 : Nat) ({ cls := "PingEyeModel", name := "flag", desc := "(Z)I" } : Jvm.MethodName)) ∈ lw_all := lw_g (lw_at lw_m9 132 rfl) rfl
theorem q2147 : (Jvm.Cond.static ({ cls := "PingEyeModel", name := "flag", desc := "(Z)I" } : Jvm.MethodName)) ∈ lw_all := lw_g (lw_at lw_m9 133 rfl) rfl
theorem q2148 : (Jvm.Cond.code ({ cls := "PingEyeModel", name := "flag", desc := "(Z)I" } : Jvm.MethodName) prog_10_method_4_code (1 : Nat) (Option.some Jvm.ClassFile.FieldType.int)) ∈ lw_all := lw_g (lw_at lw_m9 134 rfl) rfl
theorem q2149 : (Jvm.Cond.stringRef "PingEyeModel" (220 : Nat) "draw") ∈ lw_tbl := lw_at lw_m9 135 rfl
theorem q2150 : (Jvm.Cond.methodLink "PingEyeModel" (222 : Nat) ({ cls := "PingEyeModel", name := "drawLine", desc := "()V" } : Jvm.MethodName)) ∈ lw_all := lw_g (lw_at lw_m9 136 rfl) rfl
theorem q2151 : (Jvm.Cond.privateMethod ({ cls := "PingEyeModel", name := "drawLine", desc := "()V" } : Jvm.MethodName)) ∈ lw_tbl := lw_at lw_m9 137 rfl
theorem q2152 : (Jvm.Cond.instanceMethod ({ cls := "PingEyeModel", name := "drawLine", desc := "()V" } : Jvm.MethodName)) ∈ lw_all := lw_g (lw_at lw_m9 138 rfl) rfl
theorem q2153 : (Jvm.Cond.code ({ cls := "PingEyeModel", name := "drawLine", desc := "()V" } : Jvm.MethodName) prog_10_method_55_code (3 : Nat) (Option.none : Option Jvm.ClassFile.FieldType)) ∈ lw_all := lw_g (lw_at lw_m9 139 rfl) rfl
theorem q2154 : (Jvm.Cond.methodLink "PingEyeModel" (196 : Nat) ({ cls := "PingEyeModel", name := "draws", desc := "(I)I" } : Jvm.MethodName)) ∈ lw_all := lw_g (lw_at lw_m9 140 rfl) rfl
theorem q2155 : (Jvm.Cond.privateMethod ({ cls := "PingEyeModel", name := "draws", desc := "(I)I" } : Jvm.MethodName)) ∈ lw_tbl := lw_at lw_m9 141 rfl
theorem q2156 : (Jvm.Cond.instanceMethod ({ cls := "PingEyeModel", name := "draws", desc := "(I)I" } : Jvm.MethodName)) ∈ lw_all := lw_g (lw_at lw_m9 142 rfl) rfl
theorem q2157 : (Jvm.Cond.code ({ cls := "PingEyeModel", name := "draws", desc := "(I)I" } : Jvm.MethodName) prog_10_method_20_code (4 : Nat) (Option.some Jvm.ClassFile.FieldType.int)) ∈ lw_all := lw_g (lw_at lw_m9 143 rfl) rfl
theorem q2158 : (Jvm.Cond.methodLink "PingEyeModel" (79 : Nat) ({ cls := "PingEyeModel", name := "drawsOne", desc := "()Z" } : Jvm.MethodName)) ∈ lw_all := lw_g (lw_at lw_m9 144 rfl) rfl
theorem q2159 : (Jvm.Cond.privateMethod ({ cls := "PingEyeModel", name := "drawsOne", desc := "()Z" } : Jvm.MethodName)) ∈ lw_tbl := lw_at lw_m9 145 rfl
theorem q2160 : (Jvm.Cond.instanceMethod ({ cls := "PingEyeModel", name := "drawsOne", desc := "()Z" } : Jvm.MethodName)) ∈ lw_all := lw_g (lw_at lw_m9 146 rfl) rfl
theorem q2161 : (Jvm.Cond.code ({ cls := "PingEyeModel", name := "drawsOne", desc := "()Z" } : Jvm.MethodName) prog_10_method_19_code (2 : Nat) (Option.some Jvm.ClassFile.FieldType.boolean)) ∈ lw_all := lw_g (lw_at lw_m9 147 rfl) rfl
theorem q2162 : (Jvm.Cond.stringRef "PingEyeModel" (225 : Nat) "ping") ∈ lw_tbl := lw_at lw_m9 148 rfl
theorem q2163 : (Jvm.Cond.methodLink "PingEyeModel" (227 : Nat) ({ cls := "PingEyeModel", name := "pings", desc := "()V" } : Jvm.MethodName)) ∈ lw_all := lw_g (lw_at lw_m9 149 rfl) rfl
theorem q2164 : (Jvm.Cond.privateMethod ({ cls := "PingEyeModel", name := "pings", desc := "()V" } : Jvm.MethodName)) ∈ lw_tbl := lw_at lw_m9 150 rfl
theorem q2165 : (Jvm.Cond.instanceMethod ({ cls := "PingEyeModel", name := "pings", desc := "()V" } : Jvm.MethodName)) ∈ lw_all := lw_g (lw_at lw_m9 151 rfl) rfl
theorem q2166 : (Jvm.Cond.code ({ cls := "PingEyeModel", name := "pings", desc := "()V" } : Jvm.MethodName) prog_10_method_34_code (3 : Nat) (Option.none : Option Jvm.ClassFile.FieldType)) ∈ lw_all := lw_g (lw_at lw_m9 152 rfl) rfl
theorem q2167 : (Jvm.Cond.methodLink "PingEyeModel" (110 : Nat) ({ cls := "PingEyeModel", name := "chosenWay", desc := "()I" } : Jvm.MethodName)) ∈ lw_all := lw_g (lw_at lw_m9 153 rfl) rfl
theorem q2168 : (Jvm.Cond.privateMethod ({ cls := "PingEyeModel", name := "chosenWay", desc := "()I" } : Jvm.MethodName)) ∈ lw_tbl := lw_at lw_m9 154 rfl
theorem q2169 : (Jvm.Cond.instanceMethod ({ cls := "PingEyeModel", name := "chosenWay", desc := "()I" } : Jvm.MethodName)) ∈ lw_all := lw_g (lw_at lw_m9 155 rfl) rfl
theorem q2170 : (Jvm.Cond.code ({ cls := "PingEyeModel", name := "chosenWay", desc := "()I" } : Jvm.MethodName) prog_10_method_32_code (1 : Nat) (Option.some Jvm.ClassFile.FieldType.int)) ∈ lw_all := lw_g (lw_at lw_m9 156 rfl) rfl
theorem q2171 : (Jvm.Cond.methodLink "PingEyeModel" (104 : Nat) ({ cls := "PingEyeModel", name := "strongest", desc := "(I)I" } : Jvm.MethodName)) ∈ lw_all := lw_g (lw_at lw_m9 157 rfl) rfl
theorem q2172 : (Jvm.Cond.privateMethod ({ cls := "PingEyeModel", name := "strongest", desc := "(I)I" } : Jvm.MethodName)) ∈ lw_tbl := lw_at lw_m9 158 rfl
theorem q2173 : (Jvm.Cond.instanceMethod ({ cls := "PingEyeModel", name := "strongest", desc := "(I)I" } : Jvm.MethodName)) ∈ lw_all := lw_g (lw_at lw_m9 159 rfl) rfl
theorem q2174 : (Jvm.Cond.code ({ cls := "PingEyeModel", name := "strongest", desc := "(I)I" } : Jvm.MethodName) prog_10_method_33_code (4 : Nat) (Option.some Jvm.ClassFile.FieldType.int)) ∈ lw_all := lw_g (lw_at lw_m9 160 rfl) rfl
theorem q2175 : (Jvm.Cond.methodLink "PingEyeModel" (101 : Nat) ({ cls := "PingEyeModel", name := "heardFrom", desc := "(I)I" } : Jvm.MethodName)) ∈ lw_all := lw_g (lw_at lw_m9 161 rfl) rfl
theorem q2176 : (Jvm.Cond.privateMethod ({ cls := "PingEyeModel", name := "heardFrom", desc := "(I)I" } : Jvm.MethodName)) ∈ lw_tbl := lw_at lw_m9 162 rfl
theorem q2177 : (Jvm.Cond.instanceMethod ({ cls := "PingEyeModel", name := "heardFrom", desc := "(I)I" } : Jvm.MethodName)) ∈ lw_all := lw_g (lw_at lw_m9 163 rfl) rfl
theorem q2178 : (Jvm.Cond.code ({ cls := "PingEyeModel", name := "heardFrom", desc := "(I)I" } : Jvm.MethodName) prog_10_method_30_code (4 : Nat) (Option.some Jvm.ClassFile.FieldType.int)) ∈ lw_all := lw_g (lw_at lw_m9 164 rfl) rfl
theorem q2179 : (Jvm.Cond.methodLink "PingEyeModel" (83 : Nat) ({ cls := "PingEyeModel", name := "heapWay", desc := "()I" } : Jvm.MethodName)) ∈ lw_all := lw_g (lw_at lw_m9 165 rfl) rfl
theorem q2180 : (Jvm.Cond.privateMethod ({ cls := "PingEyeModel", name := "heapWay", desc := "()I" } : Jvm.MethodName)) ∈ lw_tbl := lw_at lw_m9 166 rfl
theorem q2181 : (Jvm.Cond.instanceMethod ({ cls := "PingEyeModel", name := "heapWay", desc := "()I" } : Jvm.MethodName)) ∈ lw_all := lw_g (lw_at lw_m9 167 rfl) rfl
theorem q2182 : (Jvm.Cond.code ({ cls := "PingEyeModel", name := "heapWay", desc := "()I" } : Jvm.MethodName) prog_10_method_23_code (1 : Nat) (Option.some Jvm.ClassFile.FieldType.int)) ∈ lw_all := lw_g (lw_at lw_m9 168 rfl) rfl
theorem q2183 : (Jvm.Cond.methodLink "PingEyeModel" (92 : Nat) ({ cls := "PingEyeModel", name := "heapStrength", desc := "()I" } : Jvm.MethodName)) ∈ lw_all := lw_g (lw_at lw_m9 169 rfl) rfl
theorem q2184 : (Jvm.Cond.privateMethod ({ cls := "PingEyeModel", name := "heapStrength", desc := "()I" } : Jvm.MethodName)) ∈ lw_tbl := lw_at lw_m9 170 rfl
theorem q2185 : (Jvm.Cond.instanceMethod ({ cls := "PingEyeModel", name := "heapStrength", desc := "()I" } : Jvm.MethodName)) ∈ lw_all := lw_g (lw_at lw_m9 171 rfl) rfl
theorem q2186 : (Jvm.Cond.code ({ cls := "PingEyeModel", name := "heapStrength", desc := "()I" } : Jvm.MethodName) prog_10_method_26_code (1 : Nat) (Option.some Jvm.ClassFile.FieldType.int)) ∈ lw_all := lw_g (lw_at lw_m9 172 rfl) rfl
theorem q2187 : (Jvm.Cond.methodLink "PingEyeModel" (86 : Nat) ({ cls := "PingEyeModel", name := "lossOf", desc := "(I)I" } : Jvm.MethodName)) ∈ lw_all := lw_g (lw_at lw_m9 173 rfl) rfl
theorem q2188 : (Jvm.Cond.privateMethod ({ cls := "PingEyeModel", name := "lossOf", desc := "(I)I" } : Jvm.MethodName)) ∈ lw_tbl := lw_at lw_m9 174 rfl
theorem q2189 : (Jvm.Cond.instanceMethod ({ cls := "PingEyeModel", name := "lossOf", desc := "(I)I" } : Jvm.MethodName)) ∈ lw_all := lw_g (lw_at lw_m9 175 rfl) rfl
theorem q2190 : (Jvm.Cond.code ({ cls := "PingEyeModel", name := "lossOf", desc := "(I)I" } : Jvm.MethodName) prog_10_method_25_code (2 : Nat) (Option.some Jvm.ClassFile.FieldType.int)) ∈ lw_all := lw_g (lw_at lw_m9 176 rfl) rfl
theorem q2191 : (Jvm.Cond.methodLink "PingEyeModel" (95 : Nat) ({ cls := "PingEyeModel", name := "hasEcho", desc := "(I)Z" } : Jvm.MethodName)) ∈ lw_all := lw_g (lw_at lw_m9 177 rfl) rfl
theorem q2192 : (Jvm.Cond.privateMethod ({ cls := "PingEyeModel", name := "hasEcho", desc := "(I)Z" } : Jvm.MethodName)) ∈ lw_tbl := lw_at lw_m9 178 rfl
theorem q2193 : (Jvm.Cond.instanceMethod ({ cls := "PingEyeModel", name := "hasEcho", desc := "(I)Z" } : Jvm.MethodName)) ∈ lw_all := lw_g (lw_at lw_m9 179 rfl) rfl
theorem q2194 : (Jvm.Cond.code ({ cls := "PingEyeModel", name := "hasEcho", desc := "(I)Z" } : Jvm.MethodName) prog_10_method_28_code (2 : Nat) (Option.some Jvm.ClassFile.FieldType.boolean)) ∈ lw_all := lw_g (lw_at lw_m9 180 rfl) rfl
theorem q2195 : (Jvm.Cond.methodLink "PingEyeModel" (98 : Nat) ({ cls := "PingEyeModel", name := "barStrength", desc := "(I)I" } : Jvm.MethodName)) ∈ lw_all := lw_g (lw_at lw_m9 181 rfl) rfl
theorem q2196 : (Jvm.Cond.privateMethod ({ cls := "PingEyeModel", name := "barStrength", desc := "(I)I" } : Jvm.MethodName)) ∈ lw_tbl := lw_at lw_m9 182 rfl
theorem q2197 : (Jvm.Cond.instanceMethod ({ cls := "PingEyeModel", name := "barStrength", desc := "(I)I" } : Jvm.MethodName)) ∈ lw_all := lw_g (lw_at lw_m9 183 rfl) rfl
theorem q2198 : (Jvm.Cond.code ({ cls := "PingEyeModel", name := "barStrength", desc := "(I)I" } : Jvm.MethodName) prog_10_method_29_code (2 : Nat) (Option.some Jvm.ClassFile.FieldType.int)) ∈ lw_all := lw_g (lw_at lw_m9 184 rfl) rfl
theorem q2199 : (Jvm.Cond.methodLink "PingEyeModel" (107 : Nat) ({ cls := "PingEyeModel", name := "isMasked", desc := "(I)Z" } : Jvm.MethodName)) ∈ lw_all := lw_g (lw_at lw_m9 185 rfl) rfl
theorem q2200 : (Jvm.Cond.privateMethod ({ cls := "PingEyeModel", name := "isMasked", desc := "(I)Z" } : Jvm.MethodName)) ∈ lw_tbl := lw_at lw_m9 186 rfl
theorem q2201 : (Jvm.Cond.instanceMethod ({ cls := "PingEyeModel", name := "isMasked", desc := "(I)Z" } : Jvm.MethodName)) ∈ lw_all := lw_g (lw_at lw_m9 187 rfl) rfl
theorem q2202 : (Jvm.Cond.code ({ cls := "PingEyeModel", name := "isMasked", desc := "(I)Z" } : Jvm.MethodName) prog_10_method_31_code (2 : Nat) (Option.some Jvm.ClassFile.FieldType.boolean)) ∈ lw_all := lw_g (lw_at lw_m9 188 rfl) rfl
theorem q2203 : (Jvm.Cond.methodLink "PingEyeModel" (113 : Nat) ({ cls := "java/lang/Math", name := "abs", desc := "(I)I" } : Jvm.MethodName)) ∈ lw_all := lw_g (lw_at lw_m9 189 rfl) rfl
theorem q2204 : (Jvm.Cond.methodLink "PingEyeModel" (116 : Nat) ({ cls := "java/lang/Math", name := "max", desc := "(II)I" } : Jvm.MethodName)) ∈ lw_all := lw_g (lw_at lw_m9 190 rfl) rfl
theorem q2205 : (Jvm.Cond.stringRef "PingEyeModel" (230 : Nat) "learn") ∈ lw_tbl := lw_at lw_m9 191 rfl
theorem q2206 : (Jvm.Cond.methodLink "PingEyeModel" (232 : Nat) ({ cls := "PingEyeModel", name := "learns", desc := "(I)I" } : Jvm.MethodName)) ∈ lw_all := lw_g (lw_at lw_m9 192 rfl) rfl
theorem q2207 : (Jvm.Cond.privateMethod ({ cls := "PingEyeModel", name := "learns", desc := "(I)I" } : Jvm.MethodName)) ∈ lw_tbl := lw_at lw_m9 193 rfl
theorem q2208 : (Jvm.Cond.instanceMethod ({ cls := "PingEyeModel", name := "learns", desc := "(I)I" } : Jvm.MethodName)) ∈ lw_all := lw_g (lw_at lw_m9 194 rfl) rfl
theorem q2209 : (Jvm.Cond.code ({ cls := "PingEyeModel", name := "learns", desc := "(I)I" } : Jvm.MethodName) prog_10_method_35_code (4 : Nat) (Option.some Jvm.ClassFile.FieldType.int)) ∈ lw_all := lw_g (lw_at lw_m9 195 rfl) rfl
theorem q2210 : (Jvm.Cond.stringRef "PingEyeModel" (235 : Nat) "wait") ∈ lw_tbl := lw_at lw_m9 196 rfl
theorem q2211 : (Jvm.Cond.methodLink "PingEyeModel" (250 : Nat) ({ cls := "PingEyeModel", name := "back", desc := "(I)I" } : Jvm.MethodName)) ∈ lw_all := lw_g (lw_at lw_m9 197 rfl) rfl
theorem q2212 : (Jvm.Cond.privateMethod ({ cls := "PingEyeModel", name := "back", desc := "(I)I" } : Jvm.MethodName)) ∈ lw_tbl := lw_at lw_m9 198 rfl
theorem q2213 : (Jvm.Cond.instanceMethod ({ cls := "PingEyeModel", name := "back", desc := "(I)I" } : Jvm.MethodName)) ∈ lw_all := lw_g (lw_at lw_m9 199 rfl) rfl
theorem q2214 : (Jvm.Cond.code ({ cls := "PingEyeModel", name := "back", desc := "(I)I" } : Jvm.MethodName) prog_10_method_9_code (2 : Nat) (Option.some Jvm.ClassFile.FieldType.int)) ∈ lw_all := lw_g (lw_at lw_m9 200 rfl) rfl
theorem q2216 : (Jvm.Cond.instanceMethod ({ cls := "PingEyeModel", name := "number", desc := "(I)I" } : Jvm.MethodName)) ∈ lw_all := lw_g (lw_at lw_m9 202 rfl) rfl
theorem q2217 : (Jvm.Cond.selects "PingEyeModel" ({ cls := "PingEyeModel", name := "number", desc := "(I)I" } : Jvm.MethodName) ({ cls := "PingEyeModel", name := "number", desc := "(I)I" } : Jvm.MethodName)) ∈ lw_all := lw_g (lw_at lw_m9 203 rfl) rfl
theorem q2218 : (Jvm.Cond.code ({ cls := "PingEyeModel", name := "number", desc := "(I)I" } : Jvm.MethodName) prog_10_method_59_code (2 : Nat) (Option.some Jvm.ClassFile.FieldType.int)) ∈ lw_all := lw_g (lw_at lw_m9 204 rfl) rfl
theorem q2219 : (Jvm.Cond.methodLink "PingEyeModel" (256 : Nat) ({ cls := "PingEyeModel", name := "notLoaded", desc := "()Z" } : Jvm.MethodName)) ∈ lw_all := lw_g (lw_at lw_m9 205 rfl) rfl
theorem q2220 : (Jvm.Cond.privateMethod ({ cls := "PingEyeModel", name := "notLoaded", desc := "()Z" } : Jvm.MethodName)) ∈ lw_tbl := lw_at lw_m9 206 rfl
theorem q2221 : (Jvm.Cond.instanceMethod ({ cls := "PingEyeModel", name := "notLoaded", desc := "()Z" } : Jvm.MethodName)) ∈ lw_all := lw_g (lw_at lw_m9 207 rfl) rfl
theorem q2222 : (Jvm.Cond.code ({ cls := "PingEyeModel", name := "notLoaded", desc := "()Z" } : Jvm.MethodName) prog_10_method_6_code (1 : Nat) (Option.some Jvm.ClassFile.FieldType.boolean)) ∈ lw_all := lw_g (lw_at lw_m9 208 rfl) rfl
theorem q2223 : (Jvm.Cond.constantLong "PingEyeModel" (259 : Nat) (8 : Int64)) ∈ lw_all := lw_g (lw_at lw_m9 209 rfl) rfl
theorem q2225 : (Jvm.Cond.instanceMethod ({ cls := "PingEyeModel", name := "count", desc := "(I)I" } : Jvm.MethodName)) ∈ lw_all := lw_g (lw_at lw_m9 211 rfl) rfl
theorem q2226 : (Jvm.Cond.selects "PingEyeModel" ({ cls := "PingEyeModel", name := "count", desc := "(I)I" } : Jvm.MethodName) ({ cls := "PingEyeModel", name := "count", desc := "(I)I" } : Jvm.MethodName)) ∈ lw_all := lw_g (lw_at lw_m9 212 rfl) rfl
theorem q2227 : (Jvm.Cond.code ({ cls := "PingEyeModel", name := "count", desc := "(I)I" } : Jvm.MethodName) prog_10_method_61_code (2 : Nat) (Option.some Jvm.ClassFile.FieldType.int)) ∈ lw_all := lw_g (lw_at lw_m9 213 rfl) rfl
theorem q2228 : (Jvm.Cond.constantLong "PingEyeModel" (264 : Nat) (15 : Int64)) ∈ lw_all := lw_g (lw_at lw_m9 214 rfl) rfl
theorem q2229 : (Jvm.Cond.methodLink "PingEyeModel" (266 : Nat) ({ cls := "PingEyeModel", name := "together", desc := "()I" } : Jvm.MethodName)) ∈ lw_all := lw_g (lw_at lw_m9 215 rfl) rfl
theorem q2230 : (Jvm.Cond.privateMethod ({ cls := "PingEyeModel", name := "together", desc := "()I" } : Jvm.MethodName)) ∈ lw_tbl := lw_at lw_m9 216 rfl
theorem q2231 : (Jvm.Cond.instanceMethod ({ cls := "PingEyeModel", name := "together", desc := "()I" } : Jvm.MethodName)) ∈ lw_all := lw_g (lw_at lw_m9 217 rfl) rfl
theorem q2232 : (Jvm.Cond.code ({ cls := "PingEyeModel", name := "together", desc := "()I" } : Jvm.MethodName) prog_10_method_13_code (3 : Nat) (Option.some Jvm.ClassFile.FieldType.int)) ∈ lw_all := lw_g (lw_at lw_m9 218 rfl) rfl
theorem q2233 : (Jvm.Cond.methodLink "PingEyeModel" (269 : Nat) ({ cls := "PingEyeModel", name := "stuckOnes", desc := "(Z)I" } : Jvm.MethodName)) ∈ lw_all := lw_g (lw_at lw_m9 219 rfl) rfl
theorem q2234 : (Jvm.Cond.privateMethod ({ cls := "PingEyeModel", name := "stuckOnes", desc := "(Z)I" } : Jvm.MethodName)) ∈ lw_tbl := lw_at lw_m9 220 rfl
theorem q2235 : (Jvm.Cond.instanceMethod ({ cls := "PingEyeModel", name := "stuckOnes", desc := "(Z)I" } : Jvm.MethodName)) ∈ lw_all := lw_g (lw_at lw_m9 221 rfl) rfl
theorem q2236 : (Jvm.Cond.code ({ cls := "PingEyeModel", name := "stuckOnes", desc := "(Z)I" } : Jvm.MethodName) prog_10_method_60_code (4 : Nat) (Option.some Jvm.ClassFile.FieldType.int)) ∈ lw_all := lw_g (lw_at lw_m9 222 rfl) rfl
theorem q2237 : (Jvm.Cond.methodLink "PingEyeModel" (261 : Nat) ({ cls := "PingEyeModel", name := "isHanging", desc := "(I)Z" } : Jvm.MethodName)) ∈ lw_all := lw_g (lw_at lw_m9 223 rfl) rfl
theorem q2238 : (Jvm.Cond.privateMethod ({ cls := "PingEyeModel", name := "isHanging", desc := "(I)Z" } : Jvm.MethodName)) ∈ lw_tbl := lw_at lw_m9 224 rfl
theorem q2239 : (Jvm.Cond.instanceMethod ({ cls := "PingEyeModel", name := "isHanging", desc := "(I)Z" } : Jvm.MethodName)) ∈ lw_all := lw_g (lw_at lw_m9 225 rfl) rfl
theorem q2240 : (Jvm.Cond.code ({ cls := "PingEyeModel", name := "isHanging", desc := "(I)Z" } : Jvm.MethodName) prog_10_method_22_code (2 : Nat) (Option.some Jvm.ClassFile.FieldType.boolean)) ∈ lw_all := lw_g (lw_at lw_m9 226 rfl) rfl
theorem q2242 : (Jvm.Cond.instanceMethod ({ cls := "PingEyeModel", name := "height", desc := "(I)I" } : Jvm.MethodName)) ∈ lw_all := lw_g (lw_at lw_m9 228 rfl) rfl
theorem q2243 : (Jvm.Cond.selects "PingEyeModel" ({ cls := "PingEyeModel", name := "height", desc := "(I)I" } : Jvm.MethodName) ({ cls := "PingEyeModel", name := "height", desc := "(I)I" } : Jvm.MethodName)) ∈ lw_all := lw_g (lw_at lw_m9 229 rfl) rfl
theorem q2244 : (Jvm.Cond.code ({ cls := "PingEyeModel", name := "height", desc := "(I)I" } : Jvm.MethodName) prog_10_method_64_code (2 : Nat) (Option.some Jvm.ClassFile.FieldType.int)) ∈ lw_all := lw_g (lw_at lw_m9 230 rfl) rfl
theorem q2245 : (Jvm.Cond.methodLink "PingEyeModel" (275 : Nat) ({ cls := "PingEyeModel", name := "noColumn", desc := "(I)Z" } : Jvm.MethodName)) ∈ lw_all := lw_g (lw_at lw_m9 231 rfl) rfl
theorem q2246 : (Jvm.Cond.privateMethod ({ cls := "PingEyeModel", name := "noColumn", desc := "(I)Z" } : Jvm.MethodName)) ∈ lw_tbl := lw_at lw_m9 232 rfl
theorem q2247 : (Jvm.Cond.instanceMethod ({ cls := "PingEyeModel", name := "noColumn", desc := "(I)Z" } : Jvm.MethodName)) ∈ lw_all := lw_g (lw_at lw_m9 233 rfl) rfl
theorem q2248 : (Jvm.Cond.code ({ cls := "PingEyeModel", name := "noColumn", desc := "(I)Z" } : Jvm.MethodName) prog_10_method_63_code (2 : Nat) (Option.some Jvm.ClassFile.FieldType.boolean)) ∈ lw_all := lw_g (lw_at lw_m9 234 rfl) rfl
theorem q2249 : (Jvm.Cond.methodLink "PingEyeModel" (272 : Nat) ({ cls := "PingEyeModel", name := "isColumn", desc := "(I)Z" } : Jvm.MethodName)) ∈ lw_all := lw_g (lw_at lw_m9 235 rfl) rfl
theorem q2250 : (Jvm.Cond.privateMethod ({ cls := "PingEyeModel", name := "isColumn", desc := "(I)Z" } : Jvm.MethodName)) ∈ lw_tbl := lw_at lw_m9 236 rfl
theorem q2251 : (Jvm.Cond.instanceMethod ({ cls := "PingEyeModel", name := "isColumn", desc := "(I)Z" } : Jvm.MethodName)) ∈ lw_all := lw_g (lw_at lw_m9 237 rfl) rfl
theorem q2252 : (Jvm.Cond.code ({ cls := "PingEyeModel", name := "isColumn", desc := "(I)Z" } : Jvm.MethodName) prog_10_method_62_code (2 : Nat) (Option.some Jvm.ClassFile.FieldType.boolean)) ∈ lw_all := lw_g (lw_at lw_m9 238 rfl) rfl
theorem q2254 : (Jvm.Cond.instanceMethod ({ cls := "PingEyeModel", name := "isStuck", desc := "(I)Z" } : Jvm.MethodName)) ∈ lw_all := lw_g (lw_at lw_m10 0 rfl) rfl
theorem q2255 : (Jvm.Cond.selects "PingEyeModel" ({ cls := "PingEyeModel", name := "isStuck", desc := "(I)Z" } : Jvm.MethodName) ({ cls := "PingEyeModel", name := "isStuck", desc := "(I)Z" } : Jvm.MethodName)) ∈ lw_all := lw_g (lw_at lw_m10 1 rfl) rfl
theorem q2256 : (Jvm.Cond.code ({ cls := "PingEyeModel", name := "isStuck", desc := "(I)Z" } : Jvm.MethodName) prog_10_method_65_code (2 : Nat) (Option.some Jvm.ClassFile.FieldType.boolean)) ∈ lw_all := lw_g (lw_at lw_m10 2 rfl) rfl
theorem q2258 : (Jvm.Cond.instanceMethod ({ cls := "PingEyeModel", name := "hangs", desc := "(I)Z" } : Jvm.MethodName)) ∈ lw_all := lw_g (lw_at lw_m10 4 rfl) rfl
theorem q2259 : (Jvm.Cond.selects "PingEyeModel" ({ cls := "PingEyeModel", name := "hangs", desc := "(I)Z" } : Jvm.MethodName) ({ cls := "PingEyeModel", name := "hangs", desc := "(I)Z" } : Jvm.MethodName)) ∈ lw_all := lw_g (lw_at lw_m10 5 rfl) rfl
theorem q2260 : (Jvm.Cond.code ({ cls := "PingEyeModel", name := "hangs", desc := "(I)Z" } : Jvm.MethodName) prog_10_method_66_code (2 : Nat) (Option.some Jvm.ClassFile.FieldType.boolean)) ∈ lw_all := lw_g (lw_at lw_m10 6 rfl) rfl
theorem q2262 : (Jvm.Cond.instanceMethod ({ cls := "PingEyeModel", name := "highest", desc := "(Z)I" } : Jvm.MethodName)) ∈ lw_all := lw_g (lw_at lw_m10 8 rfl) rfl
theorem q2263 : (Jvm.Cond.selects "PingEyeModel" ({ cls := "PingEyeModel", name := "highest", desc := "(Z)I" } : Jvm.MethodName) ({ cls := "PingEyeModel", name := "highest", desc := "(Z)I" } : Jvm.MethodName)) ∈ lw_all := lw_g (lw_at lw_m10 9 rfl) rfl
theorem q2264 : (Jvm.Cond.code ({ cls := "PingEyeModel", name := "highest", desc := "(Z)I" } : Jvm.MethodName) prog_10_method_67_code (4 : Nat) (Option.some Jvm.ClassFile.FieldType.int)) ∈ lw_all := lw_g (lw_at lw_m10 10 rfl) rfl
theorem q2266 : (Jvm.Cond.instanceMethod ({ cls := "PingEyeModel", name := "steepest", desc := "()I" } : Jvm.MethodName)) ∈ lw_all := lw_g (lw_at lw_m10 12 rfl) rfl
theorem q2267 : (Jvm.Cond.selects "PingEyeModel" ({ cls := "PingEyeModel", name := "steepest", desc := "()I" } : Jvm.MethodName) ({ cls := "PingEyeModel", name := "steepest", desc := "()I" } : Jvm.MethodName)) ∈ lw_all := lw_g (lw_at lw_m10 13 rfl) rfl
theorem q2268 : (Jvm.Cond.code ({ cls := "PingEyeModel", name := "steepest", desc := "()I" } : Jvm.MethodName) prog_10_method_68_code (3 : Nat) (Option.some Jvm.ClassFile.FieldType.int)) ∈ lw_all := lw_g (lw_at lw_m10 14 rfl) rfl
theorem q2270 : (Jvm.Cond.instanceMethod ({ cls := "PingEyeModel", name := "peak", desc := "(II)I" } : Jvm.MethodName)) ∈ lw_all := lw_g (lw_at lw_m10 16 rfl) rfl
theorem q2271 : (Jvm.Cond.selects "PingEyeModel" ({ cls := "PingEyeModel", name := "peak", desc := "(II)I" } : Jvm.MethodName) ({ cls := "PingEyeModel", name := "peak", desc := "(II)I" } : Jvm.MethodName)) ∈ lw_all := lw_g (lw_at lw_m10 17 rfl) rfl
theorem q2272 : (Jvm.Cond.code ({ cls := "PingEyeModel", name := "peak", desc := "(II)I" } : Jvm.MethodName) prog_10_method_69_code (5 : Nat) (Option.some Jvm.ClassFile.FieldType.int)) ∈ lw_all := lw_g (lw_at lw_m10 18 rfl) rfl
theorem q2274 : (Jvm.Cond.instanceMethod ({ cls := "PingEyeModel", name := "slideTo", desc := "(I)I" } : Jvm.MethodName)) ∈ lw_all := lw_g (lw_at lw_m10 20 rfl) rfl
theorem q2275 : (Jvm.Cond.selects "PingEyeModel" ({ cls := "PingEyeModel", name := "slideTo", desc := "(I)I" } : Jvm.MethodName) ({ cls := "PingEyeModel", name := "slideTo", desc := "(I)I" } : Jvm.MethodName)) ∈ lw_all := lw_g (lw_at lw_m10 21 rfl) rfl
theorem q2276 : (Jvm.Cond.code ({ cls := "PingEyeModel", name := "slideTo", desc := "(I)I" } : Jvm.MethodName) prog_10_method_70_code (2 : Nat) (Option.some Jvm.ClassFile.FieldType.int)) ∈ lw_all := lw_g (lw_at lw_m10 22 rfl) rfl
theorem q2278 : (Jvm.Cond.instanceMethod ({ cls := "PingEyeModel", name := "gap", desc := "()I" } : Jvm.MethodName)) ∈ lw_all := lw_g (lw_at lw_m10 24 rfl) rfl
theorem q2279 : (Jvm.Cond.selects "PingEyeModel" ({ cls := "PingEyeModel", name := "gap", desc := "()I" } : Jvm.MethodName) ({ cls := "PingEyeModel", name := "gap", desc := "()I" } : Jvm.MethodName)) ∈ lw_all := lw_g (lw_at lw_m10 25 rfl) rfl
theorem q2280 : (Jvm.Cond.code ({ cls := "PingEyeModel", name := "gap", desc := "()I" } : Jvm.MethodName) prog_10_method_71_code (3 : Nat) (Option.some Jvm.ClassFile.FieldType.int)) ∈ lw_all := lw_g (lw_at lw_m10 26 rfl) rfl
theorem q2282 : (Jvm.Cond.instanceMethod ({ cls := "PingEyeModel", name := "bar", desc := "(II)I" } : Jvm.MethodName)) ∈ lw_all := lw_g (lw_at lw_m10 28 rfl) rfl
theorem q2283 : (Jvm.Cond.selects "PingEyeModel" ({ cls := "PingEyeModel", name := "bar", desc := "(II)I" } : Jvm.MethodName) ({ cls := "PingEyeModel", name := "bar", desc := "(II)I" } : Jvm.MethodName)) ∈ lw_all := lw_g (lw_at lw_m10 29 rfl) rfl
theorem q2284 : (Jvm.Cond.code ({ cls := "PingEyeModel", name := "bar", desc := "(II)I" } : Jvm.MethodName) prog_10_method_72_code (5 : Nat) (Option.some Jvm.ClassFile.FieldType.int)) ∈ lw_all := lw_g (lw_at lw_m10 30 rfl) rfl
theorem q2285 : (Jvm.Cond.constantLong "PingEyeModel" (278 : Nat) (4 : Int64)) ∈ lw_all := lw_g (lw_at lw_m10 31 rfl) rfl
theorem q2287 : (Jvm.Cond.instanceMethod ({ cls := "PingEyeModel", name := "heap", desc := "(I)I" } : Jvm.MethodName)) ∈ lw_all := lw_g (lw_at lw_m10 33 rfl) rfl
theorem q2288 : (Jvm.Cond.selects "PingEyeModel" ({ cls := "PingEyeModel", name := "heap", desc := "(I)I" } : Jvm.MethodName) ({ cls := "PingEyeModel", name := "heap", desc := "(I)I" } : Jvm.MethodName)) ∈ lw_all := lw_g (lw_at lw_m10 34 rfl) rfl
theorem q2289 : (Jvm.Cond.code ({ cls := "PingEyeModel", name := "heap", desc := "(I)I" } : Jvm.MethodName) prog_10_method_73_code (3 : Nat) (Option.some Jvm.ClassFile.FieldType.int)) ∈ lw_all := lw_g (lw_at lw_m10 35 rfl) rfl
theorem q2290 : (Jvm.Cond.constantLong "PingEyeModel" (280 : Nat) (5 : Int64)) ∈ lw_all := lw_g (lw_at lw_m10 36 rfl) rfl
theorem q2291 : (Jvm.Cond.methodLink "PingEyeModel" (282 : Nat) ({ cls := "PingEyeModel", name := "heapLevel", desc := "()I" } : Jvm.MethodName)) ∈ lw_all := lw_g (lw_at lw_m10 37 rfl) rfl
theorem q2292 : (Jvm.Cond.privateMethod ({ cls := "PingEyeModel", name := "heapLevel", desc := "()I" } : Jvm.MethodName)) ∈ lw_tbl := lw_at lw_m10 38 rfl
theorem q2293 : (Jvm.Cond.instanceMethod ({ cls := "PingEyeModel", name := "heapLevel", desc := "()I" } : Jvm.MethodName)) ∈ lw_all := lw_g (lw_at lw_m10 39 rfl) rfl
theorem q2294 : (Jvm.Cond.code ({ cls := "PingEyeModel", name := "heapLevel", desc := "()I" } : Jvm.MethodName) prog_10_method_24_code (1 : Nat) (Option.some Jvm.ClassFile.FieldType.int)) ∈ lw_all := lw_g (lw_at lw_m10 40 rfl) rfl
theorem q2296 : (Jvm.Cond.instanceMethod ({ cls := "PingEyeModel", name := "mask", desc := "(I)I" } : Jvm.MethodName)) ∈ lw_all := lw_g (lw_at lw_m10 42 rfl) rfl
theorem q2297 : (Jvm.Cond.selects "PingEyeModel" ({ cls := "PingEyeModel", name := "mask", desc := "(I)I" } : Jvm.MethodName) ({ cls := "PingEyeModel", name := "mask", desc := "(I)I" } : Jvm.MethodName)) ∈ lw_all := lw_g (lw_at lw_m10 43 rfl) rfl
theorem q2298 : (Jvm.Cond.code ({ cls := "PingEyeModel", name := "mask", desc := "(I)I" } : Jvm.MethodName) prog_10_method_74_code (2 : Nat) (Option.some Jvm.ClassFile.FieldType.int)) ∈ lw_all := lw_g (lw_at lw_m10 44 rfl) rfl
theorem q2300 : (Jvm.Cond.instanceMethod ({ cls := "PingEyeModel", name := "echo", desc := "(IZ)I" } : Jvm.MethodName)) ∈ lw_all := lw_g (lw_at lw_m10 46 rfl) rfl
theorem q2301 : (Jvm.Cond.selects "PingEyeModel" ({ cls := "PingEyeModel", name := "echo", desc := "(IZ)I" } : Jvm.MethodName) ({ cls := "PingEyeModel", name := "echo", desc := "(IZ)I" } : Jvm.MethodName)) ∈ lw_all := lw_g (lw_at lw_m10 47 rfl) rfl
theorem q2302 : (Jvm.Cond.code ({ cls := "PingEyeModel", name := "echo", desc := "(IZ)I" } : Jvm.MethodName) prog_10_method_75_code (5 : Nat) (Option.some Jvm.ClassFile.FieldType.int)) ∈ lw_all := lw_g (lw_at lw_m10 48 rfl) rfl
theorem q2304 : (Jvm.Cond.instanceMethod ({ cls := "PingEyeModel", name := "chosen", desc := "()I" } : Jvm.MethodName)) ∈ lw_all := lw_g (lw_at lw_m10 50 rfl) rfl
theorem q2305 : (Jvm.Cond.selects "PingEyeModel" ({ cls := "PingEyeModel", name := "chosen", desc := "()I" } : Jvm.MethodName) ({ cls := "PingEyeModel", name := "chosen", desc := "()I" } : Jvm.MethodName)) ∈ lw_all := lw_g (lw_at lw_m10 51 rfl) rfl
theorem q2306 : (Jvm.Cond.code ({ cls := "PingEyeModel", name := "chosen", desc := "()I" } : Jvm.MethodName) prog_10_method_76_code (1 : Nat) (Option.some Jvm.ClassFile.FieldType.int)) ∈ lw_all := lw_g (lw_at lw_m10 52 rfl) rfl
theorem q2308 : (Jvm.Cond.instanceMethod ({ cls := "PingEyeModel", name := "second", desc := "()I" } : Jvm.MethodName)) ∈ lw_all := lw_g (lw_at lw_m10 54 rfl) rfl
theorem q2309 : (Jvm.Cond.selects "PingEyeModel" ({ cls := "PingEyeModel", name := "second", desc := "()I" } : Jvm.MethodName) ({ cls := "PingEyeModel", name := "second", desc := "()I" } : Jvm.MethodName)) ∈ lw_all := lw_g (lw_at lw_m10 55 rfl) rfl
theorem q2310 : (Jvm.Cond.code ({ cls := "PingEyeModel", name := "second", desc := "()I" } : Jvm.MethodName) prog_10_method_77_code (2 : Nat) (Option.some Jvm.ClassFile.FieldType.int)) ∈ lw_all := lw_g (lw_at lw_m10 56 rfl) rfl
theorem q2312 : (Jvm.Cond.instanceMethod ({ cls := "PingEyeModel", name := "echoMany", desc := "(Z)I" } : Jvm.MethodName)) ∈ lw_all := lw_g (lw_at lw_m10 58 rfl) rfl
theorem q2313 : (Jvm.Cond.selects "PingEyeModel" ({ cls := "PingEyeModel", name := "echoMany", desc := "(Z)I" } : Jvm.MethodName) ({ cls := "PingEyeModel", name := "echoMany", desc := "(Z)I" } : Jvm.MethodName)) ∈ lw_all := lw_g (lw_at lw_m10 59 rfl) rfl
theorem q2314 : (Jvm.Cond.code ({ cls := "PingEyeModel", name := "echoMany", desc := "(Z)I" } : Jvm.MethodName) prog_10_method_78_code (4 : Nat) (Option.some Jvm.ClassFile.FieldType.int)) ∈ lw_all := lw_g (lw_at lw_m10 60 rfl) rfl
theorem q2316 : (Jvm.Cond.instanceMethod ({ cls := "PingEyeModel", name := "deafTo", desc := "()I" } : Jvm.MethodName)) ∈ lw_all := lw_g (lw_at lw_m10 62 rfl) rfl
theorem q2317 : (Jvm.Cond.selects "PingEyeModel" ({ cls := "PingEyeModel", name := "deafTo", desc := "()I" } : Jvm.MethodName) ({ cls := "PingEyeModel", name := "deafTo", desc := "()I" } : Jvm.MethodName)) ∈ lw_all := lw_g (lw_at lw_m10 63 rfl) rfl
theorem q2318 : (Jvm.Cond.code ({ cls := "PingEyeModel", name := "deafTo", desc := "()I" } : Jvm.MethodName) prog_10_method_79_code (3 : Nat) (Option.some Jvm.ClassFile.FieldType.int)) ∈ lw_all := lw_g (lw_at lw_m10 64 rfl) rfl
theorem q2320 : (Jvm.Cond.instanceMethod ({ cls := "PingEyeModel", name := "whyNotHeap", desc := "()I" } : Jvm.MethodName)) ∈ lw_all := lw_g (lw_at lw_m10 66 rfl) rfl
theorem q2321 : (Jvm.Cond.selects "PingEyeModel" ({ cls := "PingEyeModel", name := "whyNotHeap", desc := "()I" } : Jvm.MethodName) ({ cls := "PingEyeModel", name := "whyNotHeap", desc := "()I" } : Jvm.MethodName)) ∈ lw_all := lw_g (lw_at lw_m10 67 rfl) rfl
theorem q2322 : (Jvm.Cond.code ({ cls := "PingEyeModel", name := "whyNotHeap", desc := "()I" } : Jvm.MethodName) prog_10_method_80_code (2 : Nat) (Option.some Jvm.ClassFile.FieldType.int)) ∈ lw_all := lw_g (lw_at lw_m10 68 rfl) rfl
theorem q2324 : (Jvm.Cond.instanceMethod ({ cls := "PingEyeModel", name := "error", desc := "()I" } : Jvm.MethodName)) ∈ lw_all := lw_g (lw_at lw_m10 70 rfl) rfl
theorem q2325 : (Jvm.Cond.selects "PingEyeModel" ({ cls := "PingEyeModel", name := "error", desc := "()I" } : Jvm.MethodName) ({ cls := "PingEyeModel", name := "error", desc := "()I" } : Jvm.MethodName)) ∈ lw_all := lw_g (lw_at lw_m10 71 rfl) rfl
theorem q2326 : (Jvm.Cond.code ({ cls := "PingEyeModel", name := "error", desc := "()I" } : Jvm.MethodName) prog_10_method_81_code (1 : Nat) (Option.some Jvm.ClassFile.FieldType.int)) ∈ lw_all := lw_g (lw_at lw_m10 72 rfl) rfl
theorem q2328 : (Jvm.Cond.instanceMethod ({ cls := "PingEyeModel", name := "whyNotBelieved", desc := "()I" } : Jvm.MethodName)) ∈ lw_all := lw_g (lw_at lw_m10 74 rfl) rfl
theorem q2329 : (Jvm.Cond.selects "PingEyeModel" ({ cls := "PingEyeModel", name := "whyNotBelieved", desc := "()I" } : Jvm.MethodName) ({ cls := "PingEyeModel", name := "whyNotBelieved", desc := "()I" } : Jvm.MethodName)) ∈ lw_all := lw_g (lw_at lw_m10 75 rfl) rfl
theorem q2330 : (Jvm.Cond.code ({ cls := "PingEyeModel", name := "whyNotBelieved", desc := "()I" } : Jvm.MethodName) prog_10_method_82_code (2 : Nat) (Option.some Jvm.ClassFile.FieldType.int)) ∈ lw_all := lw_g (lw_at lw_m10 76 rfl) rfl
theorem q2332 : (Jvm.Cond.instanceMethod ({ cls := "PingEyeModel", name := "levelAfter", desc := "(I)I" } : Jvm.MethodName)) ∈ lw_all := lw_g (lw_at lw_m10 78 rfl) rfl
theorem q2333 : (Jvm.Cond.selects "PingEyeModel" ({ cls := "PingEyeModel", name := "levelAfter", desc := "(I)I" } : Jvm.MethodName) ({ cls := "PingEyeModel", name := "levelAfter", desc := "(I)I" } : Jvm.MethodName)) ∈ lw_all := lw_g (lw_at lw_m10 79 rfl) rfl
theorem q2334 : (Jvm.Cond.code ({ cls := "PingEyeModel", name := "levelAfter", desc := "(I)I" } : Jvm.MethodName) prog_10_method_84_code (3 : Nat) (Option.some Jvm.ClassFile.FieldType.int)) ∈ lw_all := lw_g (lw_at lw_m10 80 rfl) rfl
theorem q2335 : (Jvm.Cond.methodLink "PingEyeModel" (285 : Nat) ({ cls := "PingEyeModel", name := "noMany", desc := "(III)Z" } : Jvm.MethodName)) ∈ lw_all := lw_g (lw_at lw_m10 81 rfl) rfl
theorem q2336 : (Jvm.Cond.privateMethod ({ cls := "PingEyeModel", name := "noMany", desc := "(III)Z" } : Jvm.MethodName)) ∈ lw_tbl := lw_at lw_m10 82 rfl
theorem q2337 : (Jvm.Cond.instanceMethod ({ cls := "PingEyeModel", name := "noMany", desc := "(III)Z" } : Jvm.MethodName)) ∈ lw_all := lw_g (lw_at lw_m10 83 rfl) rfl
theorem q2338 : (Jvm.Cond.code ({ cls := "PingEyeModel", name := "noMany", desc := "(III)Z" } : Jvm.MethodName) prog_10_method_83_code (4 : Nat) (Option.some Jvm.ClassFile.FieldType.boolean)) ∈ lw_all := lw_g (lw_at lw_m10 84 rfl) rfl
theorem q2340 : (Jvm.Cond.instanceMethod ({ cls := "PingEyeModel", name := "pingsToTrue", desc := "()I" } : Jvm.MethodName)) ∈ lw_all := lw_g (lw_at lw_m10 86 rfl) rfl
theorem q2341 : (Jvm.Cond.selects "PingEyeModel" ({ cls := "PingEyeModel", name := "pingsToTrue", desc := "()I" } : Jvm.MethodName) ({ cls := "PingEyeModel", name := "pingsToTrue", desc := "()I" } : Jvm.MethodName)) ∈ lw_all := lw_g (lw_at lw_m10 87 rfl) rfl
theorem q2342 : (Jvm.Cond.code ({ cls := "PingEyeModel", name := "pingsToTrue", desc := "()I" } : Jvm.MethodName) prog_10_method_85_code (2 : Nat) (Option.some Jvm.ClassFile.FieldType.int)) ∈ lw_all := lw_g (lw_at lw_m10 88 rfl) rfl
theorem q2344 : (Jvm.Cond.instanceMethod ({ cls := "PingEyeModel", name := "deafFrom", desc := "()I" } : Jvm.MethodName)) ∈ lw_all := lw_g (lw_at lw_m10 90 rfl) rfl
theorem q2345 : (Jvm.Cond.selects "PingEyeModel" ({ cls := "PingEyeModel", name := "deafFrom", desc := "()I" } : Jvm.MethodName) ({ cls := "PingEyeModel", name := "deafFrom", desc := "()I" } : Jvm.MethodName)) ∈ lw_all := lw_g (lw_at lw_m10 91 rfl) rfl
theorem q2346 : (Jvm.Cond.code ({ cls := "PingEyeModel", name := "deafFrom", desc := "()I" } : Jvm.MethodName) prog_10_method_86_code (2 : Nat) (Option.some Jvm.ClassFile.FieldType.int)) ∈ lw_all := lw_g (lw_at lw_m10 92 rfl) rfl
theorem q2348 : (Jvm.Cond.instanceMethod ({ cls := "PingEyeModel", name := "heightIf", desc := "(III)I" } : Jvm.MethodName)) ∈ lw_all := lw_g (lw_at lw_m10 94 rfl) rfl
theorem q2349 : (Jvm.Cond.selects "PingEyeModel" ({ cls := "PingEyeModel", name := "heightIf", desc := "(III)I" } : Jvm.MethodName) ({ cls := "PingEyeModel", name := "heightIf", desc := "(III)I" } : Jvm.MethodName)) ∈ lw_all := lw_g (lw_at lw_m10 95 rfl) rfl
theorem q2350 : (Jvm.Cond.code ({ cls := "PingEyeModel", name := "heightIf", desc := "(III)I" } : Jvm.MethodName) prog_10_method_87_code (5 : Nat) (Option.some Jvm.ClassFile.FieldType.int)) ∈ lw_all := lw_g (lw_at lw_m10 96 rfl) rfl
theorem q2352 : (Jvm.Cond.instanceMethod ({ cls := "PingEyeModel", name := "spilledIf", desc := "(II)I" } : Jvm.MethodName)) ∈ lw_all := lw_g (lw_at lw_m10 98 rfl) rfl
theorem q2353 : (Jvm.Cond.selects "PingEyeModel" ({ cls := "PingEyeModel", name := "spilledIf", desc := "(II)I" } : Jvm.MethodName) ({ cls := "PingEyeModel", name := "spilledIf", desc := "(II)I" } : Jvm.MethodName)) ∈ lw_all := lw_g (lw_at lw_m10 99 rfl) rfl
theorem q2354 : (Jvm.Cond.code ({ cls := "PingEyeModel", name := "spilledIf", desc := "(II)I" } : Jvm.MethodName) prog_10_method_89_code (3 : Nat) (Option.some Jvm.ClassFile.FieldType.int)) ∈ lw_all := lw_g (lw_at lw_m10 100 rfl) rfl
theorem q2355 : (Jvm.Cond.methodLink "PingEyeModel" (289 : Nat) ({ cls := "PingEyeModel", name := "noUnits", desc := "(II)Z" } : Jvm.MethodName)) ∈ lw_all := lw_g (lw_at lw_m10 101 rfl) rfl
theorem q2356 : (Jvm.Cond.privateMethod ({ cls := "PingEyeModel", name := "noUnits", desc := "(II)Z" } : Jvm.MethodName)) ∈ lw_tbl := lw_at lw_m10 102 rfl
theorem q2357 : (Jvm.Cond.instanceMethod ({ cls := "PingEyeModel", name := "noUnits", desc := "(II)Z" } : Jvm.MethodName)) ∈ lw_all := lw_g (lw_at lw_m10 103 rfl) rfl
theorem q2358 : (Jvm.Cond.code ({ cls := "PingEyeModel", name := "noUnits", desc := "(II)Z" } : Jvm.MethodName) prog_10_method_88_code (3 : Nat) (Option.some Jvm.ClassFile.FieldType.boolean)) ∈ lw_all := lw_g (lw_at lw_m10 104 rfl) rfl
theorem q2360 : (Jvm.Cond.instanceMethod ({ cls := "PingEyeModel", name := "slidIf", desc := "(II)I" } : Jvm.MethodName)) ∈ lw_all := lw_g (lw_at lw_m10 106 rfl) rfl
theorem q2361 : (Jvm.Cond.selects "PingEyeModel" ({ cls := "PingEyeModel", name := "slidIf", desc := "(II)I" } : Jvm.MethodName) ({ cls := "PingEyeModel", name := "slidIf", desc := "(II)I" } : Jvm.MethodName)) ∈ lw_all := lw_g (lw_at lw_m10 107 rfl) rfl
theorem q2362 : (Jvm.Cond.code ({ cls := "PingEyeModel", name := "slidIf", desc := "(II)I" } : Jvm.MethodName) prog_10_method_90_code (5 : Nat) (Option.some Jvm.ClassFile.FieldType.int)) ∈ lw_all := lw_g (lw_at lw_m10 108 rfl) rfl
theorem q2364 : (Jvm.Cond.instanceMethod ({ cls := "PingEyeModel", name := "roomIn", desc := "(I)I" } : Jvm.MethodName)) ∈ lw_all := lw_g (lw_at lw_m10 110 rfl) rfl
theorem q2365 : (Jvm.Cond.selects "PingEyeModel" ({ cls := "PingEyeModel", name := "roomIn", desc := "(I)I" } : Jvm.MethodName) ({ cls := "PingEyeModel", name := "roomIn", desc := "(I)I" } : Jvm.MethodName)) ∈ lw_all := lw_g (lw_at lw_m10 111 rfl) rfl
theorem q2366 : (Jvm.Cond.code ({ cls := "PingEyeModel", name := "roomIn", desc := "(I)I" } : Jvm.MethodName) prog_10_method_91_code (3 : Nat) (Option.some Jvm.ClassFile.FieldType.int)) ∈ lw_all := lw_g (lw_at lw_m10 112 rfl) rfl
theorem q2368 : (Jvm.Cond.instanceMethod ({ cls := "PingEyeModel", name := "bestFill", desc := "(I)I" } : Jvm.MethodName)) ∈ lw_all := lw_g (lw_at lw_m10 114 rfl) rfl
theorem q2369 : (Jvm.Cond.selects "PingEyeModel" ({ cls := "PingEyeModel", name := "bestFill", desc := "(I)I" } : Jvm.MethodName) ({ cls := "PingEyeModel", name := "bestFill", desc := "(I)I" } : Jvm.MethodName)) ∈ lw_all := lw_g (lw_at lw_m10 115 rfl) rfl
theorem q2370 : (Jvm.Cond.code ({ cls := "PingEyeModel", name := "bestFill", desc := "(I)I" } : Jvm.MethodName) prog_10_method_92_code (8 : Nat) (Option.some Jvm.ClassFile.FieldType.int)) ∈ lw_all := lw_g (lw_at lw_m10 116 rfl) rfl
theorem q2372 : (Jvm.Cond.instanceMethod ({ cls := "PingEyeModel", name := "fillTo", desc := "(II)I" } : Jvm.MethodName)) ∈ lw_all := lw_g (lw_at lw_m10 118 rfl) rfl
theorem q2373 : (Jvm.Cond.selects "PingEyeModel" ({ cls := "PingEyeModel", name := "fillTo", desc := "(II)I" } : Jvm.MethodName) ({ cls := "PingEyeModel", name := "fillTo", desc := "(II)I" } : Jvm.MethodName)) ∈ lw_all := lw_g (lw_at lw_m10 119 rfl) rfl
theorem q2374 : (Jvm.Cond.code ({ cls := "PingEyeModel", name := "fillTo", desc := "(II)I" } : Jvm.MethodName) prog_10_method_93_code (5 : Nat) (Option.some Jvm.ClassFile.FieldType.int)) ∈ lw_all := lw_g (lw_at lw_m10 120 rfl) rfl
theorem q2376 : (Jvm.Cond.instanceMethod ({ cls := "PingEyeModel", name := "drawable", desc := "()I" } : Jvm.MethodName)) ∈ lw_all := lw_g (lw_at lw_m10 122 rfl) rfl
theorem q2377 : (Jvm.Cond.selects "PingEyeModel" ({ cls := "PingEyeModel", name := "drawable", desc := "()I" } : Jvm.MethodName) ({ cls := "PingEyeModel", name := "drawable", desc := "()I" } : Jvm.MethodName)) ∈ lw_all := lw_g (lw_at lw_m10 123 rfl) rfl
theorem q2378 : (Jvm.Cond.code ({ cls := "PingEyeModel", name := "drawable", desc := "()I" } : Jvm.MethodName) prog_10_method_94_code (1 : Nat) (Option.some Jvm.ClassFile.FieldType.int)) ∈ lw_all := lw_g (lw_at lw_m10 124 rfl) rfl
theorem q2379 : (Jvm.Cond.methodLink "PingEyeModel" (293 : Nat) ({ cls := "PingEyeModel", name := "drawsAll", desc := "()I" } : Jvm.MethodName)) ∈ lw_all := lw_g (lw_at lw_m10 125 rfl) rfl
theorem q2380 : (Jvm.Cond.privateMethod ({ cls := "PingEyeModel", name := "drawsAll", desc := "()I" } : Jvm.MethodName)) ∈ lw_tbl := lw_at lw_m10 126 rfl
theorem q2381 : (Jvm.Cond.instanceMethod ({ cls := "PingEyeModel", name := "drawsAll", desc := "()I" } : Jvm.MethodName)) ∈ lw_all := lw_g (lw_at lw_m10 127 rfl) rfl
theorem q2382 : (Jvm.Cond.code ({ cls := "PingEyeModel", name := "drawsAll", desc := "()I" } : Jvm.MethodName) prog_10_method_21_code (2 : Nat) (Option.some Jvm.ClassFile.FieldType.int)) ∈ lw_all := lw_g (lw_at lw_m10 128 rfl) rfl
theorem q2384 : (Jvm.Cond.instanceMethod ({ cls := "PingEyeModel", name := "drawableIf", desc := "(I)I" } : Jvm.MethodName)) ∈ lw_all := lw_g (lw_at lw_m10 130 rfl) rfl
theorem q2385 : (Jvm.Cond.selects "PingEyeModel" ({ cls := "PingEyeModel", name := "drawableIf", desc := "(I)I" } : Jvm.MethodName) ({ cls := "PingEyeModel", name := "drawableIf", desc := "(I)I" } : Jvm.MethodName)) ∈ lw_all := lw_g (lw_at lw_m10 131 rfl) rfl
theorem q2386 : (Jvm.Cond.code ({ cls := "PingEyeModel", name := "drawableIf", desc := "(I)I" } : Jvm.MethodName) prog_10_method_96_code (2 : Nat) (Option.some Jvm.ClassFile.FieldType.int)) ∈ lw_all := lw_g (lw_at lw_m10 132 rfl) rfl
theorem q2387 : (Jvm.Cond.methodLink "PingEyeModel" (296 : Nat) ({ cls := "PingEyeModel", name := "drawableBy", desc := "(I)I" } : Jvm.MethodName)) ∈ lw_all := lw_g (lw_at lw_m10 133 rfl) rfl
theorem q2388 : (Jvm.Cond.privateMethod ({ cls := "PingEyeModel", name := "drawableBy", desc := "(I)I" } : Jvm.MethodName)) ∈ lw_tbl := lw_at lw_m10 134 rfl
theorem q2389 : (Jvm.Cond.instanceMethod ({ cls := "PingEyeModel", name := "drawableBy", desc := "(I)I" } : Jvm.MethodName)) ∈ lw_all := lw_g (lw_at lw_m10 135 rfl) rfl
theorem q2390 : (Jvm.Cond.code ({ cls := "PingEyeModel", name := "drawableBy", desc := "(I)I" } : Jvm.MethodName) prog_10_method_95_code (3 : Nat) (Option.some Jvm.ClassFile.FieldType.int)) ∈ lw_all := lw_g (lw_at lw_m10 136 rfl) rfl
theorem q2392 : (Jvm.Cond.instanceMethod ({ cls := "PingEyeModel", name := "bestLoosened", desc := "()I" } : Jvm.MethodName)) ∈ lw_all := lw_g (lw_at lw_m10 138 rfl) rfl
theorem q2393 : (Jvm.Cond.selects "PingEyeModel" ({ cls := "PingEyeModel", name := "bestLoosened", desc := "()I" } : Jvm.MethodName) ({ cls := "PingEyeModel", name := "bestLoosened", desc := "()I" } : Jvm.MethodName)) ∈ lw_all := lw_g (lw_at lw_m10 139 rfl) rfl
theorem q2394 : (Jvm.Cond.code ({ cls := "PingEyeModel", name := "bestLoosened", desc := "()I" } : Jvm.MethodName) prog_10_method_97_code (3 : Nat) (Option.some Jvm.ClassFile.FieldType.int)) ∈ lw_all := lw_g (lw_at lw_m10 140 rfl) rfl
theorem q2396 : (Jvm.Cond.instanceMethod ({ cls := "PingEyeModel", name := "hangingUnits", desc := "()I" } : Jvm.MethodName)) ∈ lw_all := lw_g (lw_at lw_m10 142 rfl) rfl
theorem q2397 : (Jvm.Cond.selects "PingEyeModel" ({ cls := "PingEyeModel", name := "hangingUnits", desc := "()I" } : Jvm.MethodName) ({ cls := "PingEyeModel", name := "hangingUnits", desc := "()I" } : Jvm.MethodName)) ∈ lw_all := lw_g (lw_at lw_m10 143 rfl) rfl
theorem q2398 : (Jvm.Cond.code ({ cls := "PingEyeModel", name := "hangingUnits", desc := "()I" } : Jvm.MethodName) prog_10_method_98_code (2 : Nat) (Option.some Jvm.ClassFile.FieldType.int)) ∈ lw_all := lw_g (lw_at lw_m10 144 rfl) rfl
theorem q2400 : (Jvm.Cond.instanceMethod ({ cls := "PingEyeModel", name := "heightDrawn", desc := "(II)I" } : Jvm.MethodName)) ∈ lw_all := lw_g (lw_at lw_m10 146 rfl) rfl
theorem q2401 : (Jvm.Cond.selects "PingEyeModel" ({ cls := "PingEyeModel", name := "heightDrawn", desc := "(II)I" } : Jvm.MethodName) ({ cls := "PingEyeModel", name := "heightDrawn", desc := "(II)I" } : Jvm.MethodName)) ∈ lw_all := lw_g (lw_at lw_m10 147 rfl) rfl
theorem q2402 : (Jvm.Cond.code ({ cls := "PingEyeModel", name := "heightDrawn", desc := "(II)I" } : Jvm.MethodName) prog_10_method_99_code (4 : Nat) (Option.some Jvm.ClassFile.FieldType.int)) ∈ lw_all := lw_g (lw_at lw_m10 148 rfl) rfl
theorem q2404 : (Jvm.Cond.instanceMethod ({ cls := "PingEyeModel", name := "levelIfFilled", desc := "(II)I" } : Jvm.MethodName)) ∈ lw_all := lw_g (lw_at lw_m10 150 rfl) rfl
theorem q2405 : (Jvm.Cond.selects "PingEyeModel" ({ cls := "PingEyeModel", name := "levelIfFilled", desc := "(II)I" } : Jvm.MethodName) ({ cls := "PingEyeModel", name := "levelIfFilled", desc := "(II)I" } : Jvm.MethodName)) ∈ lw_all := lw_g (lw_at lw_m10 151 rfl) rfl
theorem q2406 : (Jvm.Cond.code ({ cls := "PingEyeModel", name := "levelIfFilled", desc := "(II)I" } : Jvm.MethodName) prog_10_method_100_code (4 : Nat) (Option.some Jvm.ClassFile.FieldType.int)) ∈ lw_all := lw_g (lw_at lw_m10 152 rfl) rfl
theorem q2408 : (Jvm.Cond.instanceMethod ({ cls := "PingEyeModel", name := "learntFalse", desc := "(I)I" } : Jvm.MethodName)) ∈ lw_all := lw_g (lw_at lw_m10 154 rfl) rfl
theorem q2409 : (Jvm.Cond.selects "PingEyeModel" ({ cls := "PingEyeModel", name := "learntFalse", desc := "(I)I" } : Jvm.MethodName) ({ cls := "PingEyeModel", name := "learntFalse", desc := "(I)I" } : Jvm.MethodName)) ∈ lw_all := lw_g (lw_at lw_m10 155 rfl) rfl
theorem q2410 : (Jvm.Cond.code ({ cls := "PingEyeModel", name := "learntFalse", desc := "(I)I" } : Jvm.MethodName) prog_10_method_103_code (2 : Nat) (Option.some Jvm.ClassFile.FieldType.int)) ∈ lw_all := lw_g (lw_at lw_m10 156 rfl) rfl
theorem q2411 : (Jvm.Cond.methodLink "PingEyeModel" (299 : Nat) ({ cls := "PingEyeModel", name := "noWay", desc := "(I)Z" } : Jvm.MethodName)) ∈ lw_all := lw_g (lw_at lw_m10 157 rfl) rfl
theorem q2412 : (Jvm.Cond.privateMethod ({ cls := "PingEyeModel", name := "noWay", desc := "(I)Z" } : Jvm.MethodName)) ∈ lw_tbl := lw_at lw_m10 158 rfl
theorem q2413 : (Jvm.Cond.instanceMethod ({ cls := "PingEyeModel", name := "noWay", desc := "(I)Z" } : Jvm.MethodName)) ∈ lw_all := lw_g (lw_at lw_m10 159 rfl) rfl
theorem q2414 : (Jvm.Cond.code ({ cls := "PingEyeModel", name := "noWay", desc := "(I)Z" } : Jvm.MethodName) prog_10_method_101_code (2 : Nat) (Option.some Jvm.ClassFile.FieldType.boolean)) ∈ lw_all := lw_g (lw_at lw_m10 160 rfl) rfl
theorem q2415 : (Jvm.Cond.methodLink "PingEyeModel" (302 : Nat) ({ cls := "PingEyeModel", name := "learnsHeap", desc := "(I)Z" } : Jvm.MethodName)) ∈ lw_all := lw_g (lw_at lw_m10 161 rfl) rfl
theorem q2416 : (Jvm.Cond.privateMethod ({ cls := "PingEyeModel", name := "learnsHeap", desc := "(I)Z" } : Jvm.MethodName)) ∈ lw_tbl := lw_at lw_m10 162 rfl
theorem q2417 : (Jvm.Cond.instanceMethod ({ cls := "PingEyeModel", name := "learnsHeap", desc := "(I)Z" } : Jvm.MethodName)) ∈ lw_all := lw_g (lw_at lw_m10 163 rfl) rfl
theorem q2418 : (Jvm.Cond.code ({ cls := "PingEyeModel", name := "learnsHeap", desc := "(I)Z" } : Jvm.MethodName) prog_10_method_102_code (2 : Nat) (Option.some Jvm.ClassFile.FieldType.boolean)) ∈ lw_all := lw_g (lw_at lw_m10 164 rfl) rfl
theorem q2420 : (Jvm.Cond.instanceMethod ({ cls := "PingEyeModel", name := "bestLearn", desc := "()I" } : Jvm.MethodName)) ∈ lw_all := lw_g (lw_at lw_m10 166 rfl) rfl
theorem q2421 : (Jvm.Cond.selects "PingEyeModel" ({ cls := "PingEyeModel", name := "bestLearn", desc := "()I" } : Jvm.MethodName) ({ cls := "PingEyeModel", name := "bestLearn", desc := "()I" } : Jvm.MethodName)) ∈ lw_all := lw_g (lw_at lw_m10 167 rfl) rfl
theorem q2422 : (Jvm.Cond.code ({ cls := "PingEyeModel", name := "bestLearn", desc := "()I" } : Jvm.MethodName) prog_10_method_104_code (2 : Nat) (Option.some Jvm.ClassFile.FieldType.int)) ∈ lw_all := lw_g (lw_at lw_m10 168 rfl) rfl
theorem q2424 : (Jvm.Cond.instanceMethod ({ cls := "PingEyeModel", name := "share", desc := "()F" } : Jvm.MethodName)) ∈ lw_all := lw_g (lw_at lw_m10 170 rfl) rfl
theorem q2425 : (Jvm.Cond.selects "PingEyeModel" ({ cls := "PingEyeModel", name := "share", desc := "()F" } : Jvm.MethodName) ({ cls := "PingEyeModel", name := "share", desc := "()F" } : Jvm.MethodName)) ∈ lw_all := lw_g (lw_at lw_m10 171 rfl) rfl
theorem q2426 : (Jvm.Cond.code ({ cls := "PingEyeModel", name := "share", desc := "()F" } : Jvm.MethodName) prog_10_method_105_code (1 : Nat) (Option.some Jvm.ClassFile.FieldType.float)) ∈ lw_all := lw_g (lw_at lw_m10 172 rfl) rfl
theorem q2428 : (Jvm.Cond.instanceMethod ({ cls := "PingEyeModel", name := "meanHeight", desc := "()D" } : Jvm.MethodName)) ∈ lw_all := lw_g (lw_at lw_m10 174 rfl) rfl
theorem q2429 : (Jvm.Cond.selects "PingEyeModel" ({ cls := "PingEyeModel", name := "meanHeight", desc := "()D" } : Jvm.MethodName) ({ cls := "PingEyeModel", name := "meanHeight", desc := "()D" } : Jvm.MethodName)) ∈ lw_all := lw_g (lw_at lw_m10 175 rfl) rfl
theorem q2430 : (Jvm.Cond.code ({ cls := "PingEyeModel", name := "meanHeight", desc := "()D" } : Jvm.MethodName) prog_10_method_106_code (1 : Nat) (Option.some Jvm.ClassFile.FieldType.double)) ∈ lw_all := lw_g (lw_at lw_m10 176 rfl) rfl
theorem q2432 : (Jvm.Cond.instanceMethod ({ cls := "PingEyeModel", name := "writeSilo", desc := "()I" } : Jvm.MethodName)) ∈ lw_all := lw_g (lw_at lw_m10 178 rfl) rfl
theorem q2433 : (Jvm.Cond.selects "PingEyeModel" ({ cls := "PingEyeModel", name := "writeSilo", desc := "()I" } : Jvm.MethodName) ({ cls := "PingEyeModel", name := "writeSilo", desc := "()I" } : Jvm.MethodName)) ∈ lw_all := lw_g (lw_at lw_m10 179 rfl) rfl
theorem q2434 : (Jvm.Cond.code ({ cls := "PingEyeModel", name := "writeSilo", desc := "()I" } : Jvm.MethodName) prog_10_method_109_code (2 : Nat) (Option.some Jvm.ClassFile.FieldType.int)) ∈ lw_all := lw_g (lw_at lw_m10 180 rfl) rfl
theorem q2435 : (Jvm.Cond.methodLink "PingEyeModel" (308 : Nat) ({ cls := "PingEyeModel", name := "says", desc := "(I)V" } : Jvm.MethodName)) ∈ lw_all := lw_g (lw_at lw_m10 181 rfl) rfl
theorem q2436 : (Jvm.Cond.privateMethod ({ cls := "PingEyeModel", name := "says", desc := "(I)V" } : Jvm.MethodName)) ∈ lw_tbl := lw_at lw_m10 182 rfl
theorem q2437 : (Jvm.Cond.instanceMethod ({ cls := "PingEyeModel", name := "says", desc := "(I)V" } : Jvm.MethodName)) ∈ lw_all := lw_g (lw_at lw_m10 183 rfl) rfl
theorem q2438 : (Jvm.Cond.code ({ cls := "PingEyeModel", name := "says", desc := "(I)V" } : Jvm.MethodName) prog_10_method_107_code (2 : Nat) (Option.none : Option Jvm.ClassFile.FieldType)) ∈ lw_all := lw_g (lw_at lw_m10 184 rfl) rfl
theorem q2439 : (Jvm.Cond.methodLink "PingEyeModel" (311 : Nat) ({ cls := "PingEyeModel", name := "saysNumber", desc := "(I)V" } : Jvm.MethodName)) ∈ lw_all := lw_g (lw_at lw_m10 185 rfl) rfl
theorem q2440 : (Jvm.Cond.privateMethod ({ cls := "PingEyeModel", name := "saysNumber", desc := "(I)V" } : Jvm.MethodName)) ∈ lw_tbl := lw_at lw_m10 186 rfl
theorem q2441 : (Jvm.Cond.instanceMethod ({ cls := "PingEyeModel", name := "saysNumber", desc := "(I)V" } : Jvm.MethodName)) ∈ lw_all := lw_g (lw_at lw_m10 187 rfl) rfl
theorem q2442 : (Jvm.Cond.code ({ cls := "PingEyeModel", name := "saysNumber", desc := "(I)V" } : Jvm.MethodName) prog_10_method_108_code (2 : Nat) (Option.none : Option Jvm.ClassFile.FieldType)) ∈ lw_all := lw_g (lw_at lw_m10 188 rfl) rfl
theorem q2444 : (Jvm.Cond.instanceMethod ({ cls := "PingEyeModel", name := "writeEchoes", desc := "()I" } : Jvm.MethodName)) ∈ lw_all := lw_g (lw_at lw_m10 190 rfl) rfl
theorem q2445 : (Jvm.Cond.selects "PingEyeModel" ({ cls := "PingEyeModel", name := "writeEchoes", desc := "()I" } : Jvm.MethodName) ({ cls := "PingEyeModel", name := "writeEchoes", desc := "()I" } : Jvm.MethodName)) ∈ lw_all := lw_g (lw_at lw_m10 191 rfl) rfl
theorem q2446 : (Jvm.Cond.code ({ cls := "PingEyeModel", name := "writeEchoes", desc := "()I" } : Jvm.MethodName) prog_10_method_110_code (3 : Nat) (Option.some Jvm.ClassFile.FieldType.int)) ∈ lw_all := lw_g (lw_at lw_m10 192 rfl) rfl
theorem q2448 : (Jvm.Cond.instanceMethod ({ cls := "PingEyeModel", name := "writeRow", desc := "(I)I" } : Jvm.MethodName)) ∈ lw_all := lw_g (lw_at lw_m10 194 rfl) rfl
theorem q2449 : (Jvm.Cond.selects "PingEyeModel" ({ cls := "PingEyeModel", name := "writeRow", desc := "(I)I" } : Jvm.MethodName) ({ cls := "PingEyeModel", name := "writeRow", desc := "(I)I" } : Jvm.MethodName)) ∈ lw_all := lw_g (lw_at lw_m10 195 rfl) rfl
theorem q2450 : (Jvm.Cond.code ({ cls := "PingEyeModel", name := "writeRow", desc := "(I)I" } : Jvm.MethodName) prog_10_method_112_code (4 : Nat) (Option.some Jvm.ClassFile.FieldType.int)) ∈ lw_all := lw_g (lw_at lw_m10 196 rfl) rfl
theorem q2451 : (Jvm.Cond.methodLink "PingEyeModel" (314 : Nat) ({ cls := "PingEyeModel", name := "hasBar", desc := "(I)Z" } : Jvm.MethodName)) ∈ lw_all := lw_g (lw_at lw_m10 197 rfl) rfl
theorem q2452 : (Jvm.Cond.privateMethod ({ cls := "PingEyeModel", name := "hasBar", desc := "(I)Z" } : Jvm.MethodName)) ∈ lw_tbl := lw_at lw_m10 198 rfl
theorem q2453 : (Jvm.Cond.instanceMethod ({ cls := "PingEyeModel", name := "hasBar", desc := "(I)Z" } : Jvm.MethodName)) ∈ lw_all := lw_g (lw_at lw_m10 199 rfl) rfl
theorem q2454 : (Jvm.Cond.code ({ cls := "PingEyeModel", name := "hasBar", desc := "(I)Z" } : Jvm.MethodName) prog_10_method_111_code (3 : Nat) (Option.some Jvm.ClassFile.FieldType.boolean)) ∈ lw_all := lw_g (lw_at lw_m10 200 rfl) rfl
theorem q2456 : (Jvm.Cond.instanceMethod ({ cls := "PingEyeModel", name := "textByte", desc := "(I)I" } : Jvm.MethodName)) ∈ lw_all := lw_g (lw_at lw_m10 202 rfl) rfl
theorem q2457 : (Jvm.Cond.selects "PingEyeModel" ({ cls := "PingEyeModel", name := "textByte", desc := "(I)I" } : Jvm.MethodName) ({ cls := "PingEyeModel", name := "textByte", desc := "(I)I" } : Jvm.MethodName)) ∈ lw_all := lw_g (lw_at lw_m10 203 rfl) rfl
theorem q2458 : (Jvm.Cond.code ({ cls := "PingEyeModel", name := "textByte", desc := "(I)I" } : Jvm.MethodName) prog_10_method_113_code (2 : Nat) (Option.some Jvm.ClassFile.FieldType.int)) ∈ lw_all := lw_g (lw_at lw_m10 204 rfl) rfl
theorem q2460 : (Jvm.Cond.instanceMethod ({ cls := "PingEyeModel", name := "fill", desc := "(II)I" } : Jvm.MethodName)) ∈ lw_all := lw_g (lw_at lw_m10 206 rfl) rfl
theorem q2461 : (Jvm.Cond.selects "PingEyeModel" ({ cls := "PingEyeModel", name := "fill", desc := "(II)I" } : Jvm.MethodName) ({ cls := "PingEyeModel", name := "fill", desc := "(II)I" } : Jvm.MethodName)) ∈ lw_all := lw_g (lw_at lw_m10 207 rfl) rfl
theorem q2462 : (Jvm.Cond.code ({ cls := "PingEyeModel", name := "fill", desc := "(II)I" } : Jvm.MethodName) prog_10_method_115_code (3 : Nat) (Option.some Jvm.ClassFile.FieldType.int)) ∈ lw_all := lw_g (lw_at lw_m10 208 rfl) rfl
theorem q2463 : (Jvm.Cond.methodLink "PingEyeModel" (317 : Nat) ({ cls := "PingEyeModel", name := "keepsAll", desc := "()V" } : Jvm.MethodName)) ∈ lw_all := lw_g (lw_at lw_m10 209 rfl) rfl
theorem q2464 : (Jvm.Cond.privateMethod ({ cls := "PingEyeModel", name := "keepsAll", desc := "()V" } : Jvm.MethodName)) ∈ lw_tbl := lw_at lw_m10 210 rfl
theorem q2465 : (Jvm.Cond.instanceMethod ({ cls := "PingEyeModel", name := "keepsAll", desc := "()V" } : Jvm.MethodName)) ∈ lw_all := lw_g (lw_at lw_m10 211 rfl) rfl
theorem q2466 : (Jvm.Cond.code ({ cls := "PingEyeModel", name := "keepsAll", desc := "()V" } : Jvm.MethodName) prog_10_method_114_code (2 : Nat) (Option.none : Option Jvm.ClassFile.FieldType)) ∈ lw_all := lw_g (lw_at lw_m10 212 rfl) rfl
theorem q2468 : (Jvm.Cond.instanceMethod ({ cls := "PingEyeModel", name := "draw", desc := "(I)I" } : Jvm.MethodName)) ∈ lw_all := lw_g (lw_at lw_m10 214 rfl) rfl
theorem q2469 : (Jvm.Cond.selects "PingEyeModel" ({ cls := "PingEyeModel", name := "draw", desc := "(I)I" } : Jvm.MethodName) ({ cls := "PingEyeModel", name := "draw", desc := "(I)I" } : Jvm.MethodName)) ∈ lw_all := lw_g (lw_at lw_m10 215 rfl) rfl
theorem q2470 : (Jvm.Cond.code ({ cls := "PingEyeModel", name := "draw", desc := "(I)I" } : Jvm.MethodName) prog_10_method_116_code (2 : Nat) (Option.some Jvm.ClassFile.FieldType.int)) ∈ lw_all := lw_g (lw_at lw_m10 216 rfl) rfl
theorem q2472 : (Jvm.Cond.instanceMethod ({ cls := "PingEyeModel", name := "empty", desc := "()I" } : Jvm.MethodName)) ∈ lw_all := lw_g (lw_at lw_m10 218 rfl) rfl
theorem q2473 : (Jvm.Cond.selects "PingEyeModel" ({ cls := "PingEyeModel", name := "empty", desc := "()I" } : Jvm.MethodName) ({ cls := "PingEyeModel", name := "empty", desc := "()I" } : Jvm.MethodName)) ∈ lw_all := lw_g (lw_at lw_m10 219 rfl) rfl
theorem q2474 : (Jvm.Cond.code ({ cls := "PingEyeModel", name := "empty", desc := "()I" } : Jvm.MethodName) prog_10_method_117_code (2 : Nat) (Option.some Jvm.ClassFile.FieldType.int)) ∈ lw_all := lw_g (lw_at lw_m10 220 rfl) rfl
theorem q2476 : (Jvm.Cond.instanceMethod ({ cls := "PingEyeModel", name := "level", desc := "(Z)I" } : Jvm.MethodName)) ∈ lw_all := lw_g (lw_at lw_m10 222 rfl) rfl
theorem q2477 : (Jvm.Cond.selects "PingEyeModel" ({ cls := "PingEyeModel", name := "level", desc := "(Z)I" } : Jvm.MethodName) ({ cls := "PingEyeModel", name := "level", desc := "(Z)I" } : Jvm.MethodName)) ∈ lw_all := lw_g (lw_at lw_m10 223 rfl) rfl
theorem q2478 : (Jvm.Cond.code ({ cls := "PingEyeModel", name := "level", desc := "(Z)I" } : Jvm.MethodName) prog_10_method_118_code (7 : Nat) (Option.some Jvm.ClassFile.FieldType.int)) ∈ lw_all := lw_g (lw_at lw_m10 224 rfl) rfl
theorem q2480 : (Jvm.Cond.instanceMethod ({ cls := "PingEyeModel", name := "ping", desc := "()I" } : Jvm.MethodName)) ∈ lw_all := lw_g (lw_at lw_m10 226 rfl) rfl
theorem q2481 : (Jvm.Cond.selects "PingEyeModel" ({ cls := "PingEyeModel", name := "ping", desc := "()I" } : Jvm.MethodName) ({ cls := "PingEyeModel", name := "ping", desc := "()I" } : Jvm.MethodName)) ∈ lw_all := lw_g (lw_at lw_m10 227 rfl) rfl
theorem q2482 : (Jvm.Cond.code ({ cls := "PingEyeModel", name := "ping", desc := "()I" } : Jvm.MethodName) prog_10_method_119_code (1 : Nat) (Option.some Jvm.ClassFile.FieldType.int)) ∈ lw_all := lw_g (lw_at lw_m10 228 rfl) rfl
theorem q2484 : (Jvm.Cond.instanceMethod ({ cls := "PingEyeModel", name := "learn", desc := "(I)I" } : Jvm.MethodName)) ∈ lw_all := lw_g (lw_at lw_m10 230 rfl) rfl
theorem q2485 : (Jvm.Cond.selects "PingEyeModel" ({ cls := "PingEyeModel", name := "learn", desc := "(I)I" } : Jvm.MethodName) ({ cls := "PingEyeModel", name := "learn", desc := "(I)I" } : Jvm.MethodName)) ∈ lw_all := lw_g (lw_at lw_m10 231 rfl) rfl
theorem q2486 : (Jvm.Cond.code ({ cls := "PingEyeModel", name := "learn", desc := "(I)I" } : Jvm.MethodName) prog_10_method_120_code (2 : Nat) (Option.some Jvm.ClassFile.FieldType.int)) ∈ lw_all := lw_g (lw_at lw_m10 232 rfl) rfl
theorem q2488 : (Jvm.Cond.instanceMethod ({ cls := "PingEyeModel", name := "forget", desc := "()I" } : Jvm.MethodName)) ∈ lw_all := lw_g (lw_at lw_m10 234 rfl) rfl
theorem q2489 : (Jvm.Cond.selects "PingEyeModel" ({ cls := "PingEyeModel", name := "forget", desc := "()I" } : Jvm.MethodName) ({ cls := "PingEyeModel", name := "forget", desc := "()I" } : Jvm.MethodName)) ∈ lw_all := lw_g (lw_at lw_m10 235 rfl) rfl
theorem q2490 : (Jvm.Cond.code ({ cls := "PingEyeModel", name := "forget", desc := "()I" } : Jvm.MethodName) prog_10_method_121_code (3 : Nat) (Option.some Jvm.ClassFile.FieldType.int)) ∈ lw_all := lw_g (lw_at lw_m10 236 rfl) rfl
theorem q2492 : (Jvm.Cond.instanceMethod ({ cls := "PingEyeModel", name := "waits", desc := "(I)I" } : Jvm.MethodName)) ∈ lw_all := lw_g (lw_at lw_m10 238 rfl) rfl
theorem q2493 : (Jvm.Cond.selects "PingEyeModel" ({ cls := "PingEyeModel", name := "waits", desc := "(I)I" } : Jvm.MethodName) ({ cls := "PingEyeModel", name := "waits", desc := "(I)I" } : Jvm.MethodName)) ∈ lw_all := lw_g (lw_at lw_m10 239 rfl) rfl
theorem q2494 : (Jvm.Cond.code ({ cls := "PingEyeModel", name := "waits", desc := "(I)I" } : Jvm.MethodName) prog_10_method_122_code (2 : Nat) (Option.some Jvm.ClassFile.FieldType.int)) ∈ lw_all := lw_g (lw_at lw_m11 0 rfl) rfl
theorem q2496 : (Jvm.Cond.instanceMethod ({ cls := "PingEyeModel", name := "turnStuck", desc := "(I)I" } : Jvm.MethodName)) ∈ lw_all := lw_g (lw_at lw_m11 2 rfl) rfl
theorem q2497 : (Jvm.Cond.selects "PingEyeModel" ({ cls := "PingEyeModel", name := "turnStuck", desc := "(I)I" } : Jvm.MethodName) ({ cls := "PingEyeModel", name := "turnStuck", desc := "(I)I" } : Jvm.MethodName)) ∈ lw_all := lw_g (lw_at lw_m11 3 rfl) rfl
theorem q2498 : (Jvm.Cond.code ({ cls := "PingEyeModel", name := "turnStuck", desc := "(I)I" } : Jvm.MethodName) prog_10_method_123_code (2 : Nat) (Option.some Jvm.ClassFile.FieldType.int)) ∈ lw_all := lw_g (lw_at lw_m11 4 rfl) rfl
theorem q2500 : (Jvm.Cond.instanceMethod ({ cls := "PingEyeModel", name := "setEye", desc := "(I)I" } : Jvm.MethodName)) ∈ lw_all := lw_g (lw_at lw_m11 6 rfl) rfl
theorem q2501 : (Jvm.Cond.selects "PingEyeModel" ({ cls := "PingEyeModel", name := "setEye", desc := "(I)I" } : Jvm.MethodName) ({ cls := "PingEyeModel", name := "setEye", desc := "(I)I" } : Jvm.MethodName)) ∈ lw_all := lw_g (lw_at lw_m11 7 rfl) rfl
theorem q2502 : (Jvm.Cond.code ({ cls := "PingEyeModel", name := "setEye", desc := "(I)I" } : Jvm.MethodName) prog_10_method_124_code (3 : Nat) (Option.some Jvm.ClassFile.FieldType.int)) ∈ lw_all := lw_g (lw_at lw_m11 8 rfl) rfl
theorem q2504 : (Jvm.Cond.instanceMethod ({ cls := "PingEyeModel", name := "set", desc := "(II)I" } : Jvm.MethodName)) ∈ lw_all := lw_g (lw_at lw_m11 10 rfl) rfl
theorem q2505 : (Jvm.Cond.selects "PingEyeModel" ({ cls := "PingEyeModel", name := "set", desc := "(II)I" } : Jvm.MethodName) ({ cls := "PingEyeModel", name := "set", desc := "(II)I" } : Jvm.MethodName)) ∈ lw_all := lw_g (lw_at lw_m11 11 rfl) rfl
theorem q2506 : (Jvm.Cond.code ({ cls := "PingEyeModel", name := "set", desc := "(II)I" } : Jvm.MethodName) prog_10_method_126_code (4 : Nat) (Option.some Jvm.ClassFile.FieldType.int)) ∈ lw_all := lw_g (lw_at lw_m11 12 rfl) rfl
theorem q2507 : (Jvm.Cond.methodLink "PingEyeModel" (324 : Nat) ({ cls := "PingEyeModel", name := "isSetting", desc := "(II)Z" } : Jvm.MethodName)) ∈ lw_all := lw_g (lw_at lw_m11 13 rfl) rfl
theorem q2508 : (Jvm.Cond.static ({ cls := "PingEyeModel", name := "isSetting", desc := "(II)Z" } : Jvm.MethodName)) ∈ lw_all := lw_g (lw_at lw_m11 14 rfl) rfl
theorem q2509 : (Jvm.Cond.code ({ cls := "PingEyeModel", name := "isSetting", desc := "(II)Z" } : Jvm.MethodName) prog_10_method_125_code (2 : Nat) (Option.some Jvm.ClassFile.FieldType.boolean)) ∈ lw_all := lw_g (lw_at lw_m11 15 rfl) rfl
theorem q2510 : (Jvm.Cond.constantLong "PingEyeModel" (320 : Nat) (99 : Int64)) ∈ lw_all := lw_g (lw_at lw_m11 16 rfl) rfl
theorem q2511 : (Jvm.Cond.constantLong "PingEyeModel" (322 : Nat) (30 : Int64)) ∈ lw_all := lw_g (lw_at lw_m11 17 rfl) rfl
theorem q2513 : (Jvm.Cond.instanceMethod ({ cls := "PingEyeModel", name := "undo", desc := "()I" } : Jvm.MethodName)) ∈ lw_all := lw_g (lw_at lw_m11 19 rfl) rfl
theorem q2514 : (Jvm.Cond.selects "PingEyeModel" ({ cls := "PingEyeModel", name := "undo", desc := "()I" } : Jvm.MethodName) ({ cls := "PingEyeModel", name := "undo", desc := "()I" } : Jvm.MethodName)) ∈ lw_all := lw_g (lw_at lw_m11 20 rfl) rfl
theorem q2515 : (Jvm.Cond.code ({ cls := "PingEyeModel", name := "undo", desc := "()I" } : Jvm.MethodName) prog_10_method_127_code (1 : Nat) (Option.some Jvm.ClassFile.FieldType.int)) ∈ lw_all := lw_g (lw_at lw_m11 21 rfl) rfl
theorem q2517 : (Jvm.Cond.instanceMethod ({ cls := "PingEyeModel", name := "undoable", desc := "()I" } : Jvm.MethodName)) ∈ lw_all := lw_g (lw_at lw_m11 23 rfl) rfl
theorem q2518 : (Jvm.Cond.selects "PingEyeModel" ({ cls := "PingEyeModel", name := "undoable", desc := "()I" } : Jvm.MethodName) ({ cls := "PingEyeModel", name := "undoable", desc := "()I" } : Jvm.MethodName)) ∈ lw_all := lw_g (lw_at lw_m11 24 rfl) rfl
theorem q2519 : (Jvm.Cond.code ({ cls := "PingEyeModel", name := "undoable", desc := "()I" } : Jvm.MethodName) prog_10_method_128_code (1 : Nat) (Option.some Jvm.ClassFile.FieldType.int)) ∈ lw_all := lw_g (lw_at lw_m11 25 rfl) rfl
theorem q2521 : (Jvm.Cond.instanceMethod ({ cls := "PingEyeModel", name := "save", desc := "(I)I" } : Jvm.MethodName)) ∈ lw_all := lw_g (lw_at lw_m11 27 rfl) rfl
theorem q2522 : (Jvm.Cond.selects "PingEyeModel" ({ cls := "PingEyeModel", name := "save", desc := "(I)I" } : Jvm.MethodName) ({ cls := "PingEyeModel", name := "save", desc := "(I)I" } : Jvm.MethodName)) ∈ lw_all := lw_g (lw_at lw_m11 28 rfl) rfl
theorem q2523 : (Jvm.Cond.code ({ cls := "PingEyeModel", name := "save", desc := "(I)I" } : Jvm.MethodName) prog_10_method_129_code (2 : Nat) (Option.some Jvm.ClassFile.FieldType.int)) ∈ lw_all := lw_g (lw_at lw_m11 29 rfl) rfl
theorem q2525 : (Jvm.Cond.instanceMethod ({ cls := "PingEyeModel", name := "restore", desc := "(I)I" } : Jvm.MethodName)) ∈ lw_all := lw_g (lw_at lw_m11 31 rfl) rfl
theorem q2526 : (Jvm.Cond.selects "PingEyeModel" ({ cls := "PingEyeModel", name := "restore", desc := "(I)I" } : Jvm.MethodName) ({ cls := "PingEyeModel", name := "restore", desc := "(I)I" } : Jvm.MethodName)) ∈ lw_all := lw_g (lw_at lw_m11 32 rfl) rfl
theorem q2527 : (Jvm.Cond.code ({ cls := "PingEyeModel", name := "restore", desc := "(I)I" } : Jvm.MethodName) prog_10_method_130_code (2 : Nat) (Option.some Jvm.ClassFile.FieldType.int)) ∈ lw_all := lw_g (lw_at lw_m11 33 rfl) rfl
theorem q2546 : (Jvm.Cond.castable "PingEyeModel" "java/lang/Object") ∈ lw_tbl := lw_at lw_m11 52 rfl
theorem in_X2 : ∀ w ∈ wsX20, w ∈ lw_all := lw_in wsX20 [1958, 1960, 1962, 1964, 1966, 1968, 1970, 1972, 1974, 1976, 1978, 1980, 1982, 1984, 1986, 1988, 1990, 1992, 1994] (by decide +kernel) (by decide +kernel)
