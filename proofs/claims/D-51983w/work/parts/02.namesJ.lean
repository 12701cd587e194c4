/-! DECODE ROWS BY BYTES: one lemma an opcode; a method's code is cut into short pieces once, and a row reads its own piece alone. -/
set_option maxRecDepth 100000
/-- the code has just these bytes from pc on -/
def DkAt (code : ByteArray) (pc : Nat) (bs : List UInt8) : Prop := ∀ (j : Nat) (b : UInt8), bs[j]? = some b → code.data.toList[pc + j]? = some b
/-- the piece W has the bytes bs from its place j on -/
def dkIn (W : List UInt8) (j : Nat) (bs : List UInt8) : Bool := decide ((W.drop j).take bs.length = bs)
theorem dk_seg {l W T : List UInt8} {o o2 : Nat} (h : l.drop o = W ++ T) (n : Nat) (hn : W.length = n) (ho : o + n = o2) : l.drop o2 = T := by
  subst ho
  rw [← List.drop_drop, h, List.drop_left' hn]
theorem dk_at {code : ByteArray} {W T bs : List UInt8} {o pc : Nat} (h : code.data.toList.drop o = W ++ T) (j : Nat) (hp : o + j = pc) (hw : dkIn W j bs = true) : DkAt code pc bs := by
  subst hp
  intro i b e
  have h1 := of_decide_eq_true hw
  have h2 : i < bs.length := (List.getElem?_eq_some_iff.mp e).1
  have h3 : W[j + i]? = some b := by
    rw [← h1, List.getElem?_take, if_pos h2, List.getElem?_drop] at e
    exact e
  have h4 : j + i < W.length := (List.getElem?_eq_some_iff.mp h3).1
  have h5 : (code.data.toList.drop o)[j + i]? = some b := by
    rw [h, List.getElem?_append_left h4]
    exact h3
  rw [List.getElem?_drop, ← Nat.add_assoc] at h5
  exact h5
theorem dk_u1 {A : ByteArray} {p : Nat} {b : UInt8} (h : A.data.toList[p]? = some b) : (Reader.u1 : Reader DecodeError Nat) A p = .ok (b.toNat, p + 1) := by
  obtain ⟨h1, h2⟩ := List.getElem?_eq_some_iff.mp h
  have h3 : p < A.size := by simpa using h1
  have h4 : A[p]'h3 = b := h2
  have e : (Reader.u1 : Reader DecodeError Nat) A p = (if h : p < A.size then .ok (A[p].toNat, p + 1) else .error (HasTruncated.truncated p)) := by
    show (do if h : p < A.size then do set (p + 1); Pure.pure A[p].toNat else MonadExcept.throw (HasTruncated.truncated p) : Reader DecodeError Nat) A p = _
    by_cases hi : p < A.size
    · rw [dif_pos hi, dif_pos hi]; rfl
    · rw [dif_neg hi, dif_neg hi]; rfl
  rw [e, dif_pos h3, h4]
theorem dk_bind {α β : Type} {r : Reader DecodeError α} {f : α → Reader DecodeError β} {A : ByteArray} {p s : Nat} {a : α} (h : r A p = .ok (a, s)) : (r >>= f) A p = f a A s := by
  show (do let (a, s) ← r A p; f a A s : Except DecodeError (β × Nat)) = _
  rw [h]
  rfl
theorem dk_map {α β : Type} {r : Reader DecodeError α} {g : α → β} {A : ByteArray} {p s : Nat} {a : α} (h : r A p = .ok (a, s)) : (g <$> r) A p = .ok (g a, s) := by
  show (do let (a, s) ← r A p; .ok (g a, s) : Except DecodeError (β × Nat)) = _
  rw [h]
  rfl
theorem dk_u2 {A : ByteArray} {p : Nat} {a b : UInt8} (h : A.data.toList[p]? = some a) (h2 : A.data.toList[p + 1]? = some b) : (Reader.u2 : Reader DecodeError Nat) A p = .ok (a.toNat * 256 + b.toNat, p + 2) := by
  show (Reader.u1 >>= fun hi => Reader.u1 >>= fun lo => Pure.pure (hi * 256 + lo) : Reader DecodeError Nat) A p = _
  rw [dk_bind (dk_u1 h), dk_bind (dk_u1 h2)]
  rfl
theorem dk_of {code : ByteArray} {pc n : Nat} {i : Instr} (h : Decoder.instr pc code pc = .ok (i, pc + n)) : decode code pc = .ok (i, n) := by
  have e : decode code pc = (match Decoder.instr pc code pc with | .error x => .error x | .ok (j, s) => .ok (j, s - pc)) := by
    show (do let (j, s) ← Decoder.instr pc code pc; Pure.pure (j, s - pc) : Except DecodeError (Instr × Nat)) = _
    cases Decoder.instr pc code pc <;> rfl
  rw [e, h]
  show Except.ok (i, pc + n - pc) = _
  rw [Nat.add_sub_cancel_left]
theorem dk_1 {code : ByteArray} {pc : Nat} (h : DkAt code pc [1]) : decode code pc = .ok (.aconst_null, 1) := dk_of ((dk_bind (dk_u1 (h 0 _ rfl))).trans rfl)
theorem dk_2 {code : ByteArray} {pc : Nat} (h : DkAt code pc [2]) : decode code pc = .ok (.iconst (-1), 1) := dk_of ((dk_bind (dk_u1 (h 0 _ rfl))).trans rfl)
theorem dk_3 {code : ByteArray} {pc : Nat} (h : DkAt code pc [3]) : decode code pc = .ok (.iconst 0, 1) := dk_of ((dk_bind (dk_u1 (h 0 _ rfl))).trans rfl)
theorem dk_4 {code : ByteArray} {pc : Nat} (h : DkAt code pc [4]) : decode code pc = .ok (.iconst 1, 1) := dk_of ((dk_bind (dk_u1 (h 0 _ rfl))).trans rfl)
theorem dk_5 {code : ByteArray} {pc : Nat} (h : DkAt code pc [5]) : decode code pc = .ok (.iconst 2, 1) := dk_of ((dk_bind (dk_u1 (h 0 _ rfl))).trans rfl)
theorem dk_6 {code : ByteArray} {pc : Nat} (h : DkAt code pc [6]) : decode code pc = .ok (.iconst 3, 1) := dk_of ((dk_bind (dk_u1 (h 0 _ rfl))).trans rfl)
theorem dk_7 {code : ByteArray} {pc : Nat} (h : DkAt code pc [7]) : decode code pc = .ok (.iconst 4, 1) := dk_of ((dk_bind (dk_u1 (h 0 _ rfl))).trans rfl)
theorem dk_8 {code : ByteArray} {pc : Nat} (h : DkAt code pc [8]) : decode code pc = .ok (.iconst 5, 1) := dk_of ((dk_bind (dk_u1 (h 0 _ rfl))).trans rfl)
theorem dk_9 {code : ByteArray} {pc : Nat} (h : DkAt code pc [9]) : decode code pc = .ok (.lconst 0, 1) := dk_of ((dk_bind (dk_u1 (h 0 _ rfl))).trans rfl)
theorem dk_10 {code : ByteArray} {pc : Nat} (h : DkAt code pc [10]) : decode code pc = .ok (.lconst 1, 1) := dk_of ((dk_bind (dk_u1 (h 0 _ rfl))).trans rfl)
theorem dk_11 {code : ByteArray} {pc : Nat} (h : DkAt code pc [11]) : decode code pc = .ok (.fconst 0, 1) := dk_of ((dk_bind (dk_u1 (h 0 _ rfl))).trans rfl)
theorem dk_14 {code : ByteArray} {pc : Nat} (h : DkAt code pc [14]) : decode code pc = .ok (.dconst 0, 1) := dk_of ((dk_bind (dk_u1 (h 0 _ rfl))).trans rfl)
theorem dk_16 {code : ByteArray} {pc : Nat} (a : UInt8) (h : DkAt code pc [16, a]) : decode code pc = .ok (.bipush (Reader.signed 8 a.toNat), 2) := dk_of ((dk_bind (dk_u1 (h 0 _ rfl))).trans ((dk_bind (dk_map (dk_u1 (h 1 _ rfl)))).trans rfl))
theorem dk_17 {code : ByteArray} {pc : Nat} (a b : UInt8) (h : DkAt code pc [17, a, b]) : decode code pc = .ok (.sipush (Reader.signed 16 (a.toNat * 256 + b.toNat)), 3) := dk_of ((dk_bind (dk_u1 (h 0 _ rfl))).trans ((dk_bind (dk_map (dk_u2 (h 1 _ rfl) (h 2 _ rfl)))).trans rfl))
theorem dk_18 {code : ByteArray} {pc : Nat} (a : UInt8) (h : DkAt code pc [18, a]) : decode code pc = .ok (.ldc a.toNat, 2) := dk_of ((dk_bind (dk_u1 (h 0 _ rfl))).trans ((dk_bind (dk_u1 (h 1 _ rfl))).trans rfl))
theorem dk_19 {code : ByteArray} {pc : Nat} (a b : UInt8) (h : DkAt code pc [19, a, b]) : decode code pc = .ok (.ldc_w (a.toNat * 256 + b.toNat), 3) := dk_of ((dk_bind (dk_u1 (h 0 _ rfl))).trans ((dk_bind (dk_u2 (h 1 _ rfl) (h 2 _ rfl))).trans rfl))
theorem dk_21 {code : ByteArray} {pc : Nat} (a : UInt8) (h : DkAt code pc [21, a]) : decode code pc = .ok (.iload a.toNat, 2) := dk_of ((dk_bind (dk_u1 (h 0 _ rfl))).trans ((dk_bind (dk_u1 (h 1 _ rfl))).trans rfl))
theorem dk_24 {code : ByteArray} {pc : Nat} (a : UInt8) (h : DkAt code pc [24, a]) : decode code pc = .ok (.dload a.toNat, 2) := dk_of ((dk_bind (dk_u1 (h 0 _ rfl))).trans ((dk_bind (dk_u1 (h 1 _ rfl))).trans rfl))
theorem dk_25 {code : ByteArray} {pc : Nat} (a : UInt8) (h : DkAt code pc [25, a]) : decode code pc = .ok (.aload a.toNat, 2) := dk_of ((dk_bind (dk_u1 (h 0 _ rfl))).trans ((dk_bind (dk_u1 (h 1 _ rfl))).trans rfl))
theorem dk_26 {code : ByteArray} {pc : Nat} (h : DkAt code pc [26]) : decode code pc = .ok (.iload_n 0, 1) := dk_of ((dk_bind (dk_u1 (h 0 _ rfl))).trans rfl)
theorem dk_27 {code : ByteArray} {pc : Nat} (h : DkAt code pc [27]) : decode code pc = .ok (.iload_n 1, 1) := dk_of ((dk_bind (dk_u1 (h 0 _ rfl))).trans rfl)
theorem dk_28 {code : ByteArray} {pc : Nat} (h : DkAt code pc [28]) : decode code pc = .ok (.iload_n 2, 1) := dk_of ((dk_bind (dk_u1 (h 0 _ rfl))).trans rfl)
theorem dk_29 {code : ByteArray} {pc : Nat} (h : DkAt code pc [29]) : decode code pc = .ok (.iload_n 3, 1) := dk_of ((dk_bind (dk_u1 (h 0 _ rfl))).trans rfl)
theorem dk_42 {code : ByteArray} {pc : Nat} (h : DkAt code pc [42]) : decode code pc = .ok (.aload_n 0, 1) := dk_of ((dk_bind (dk_u1 (h 0 _ rfl))).trans rfl)
theorem dk_43 {code : ByteArray} {pc : Nat} (h : DkAt code pc [43]) : decode code pc = .ok (.aload_n 1, 1) := dk_of ((dk_bind (dk_u1 (h 0 _ rfl))).trans rfl)
theorem dk_44 {code : ByteArray} {pc : Nat} (h : DkAt code pc [44]) : decode code pc = .ok (.aload_n 2, 1) := dk_of ((dk_bind (dk_u1 (h 0 _ rfl))).trans rfl)
theorem dk_45 {code : ByteArray} {pc : Nat} (h : DkAt code pc [45]) : decode code pc = .ok (.aload_n 3, 1) := dk_of ((dk_bind (dk_u1 (h 0 _ rfl))).trans rfl)
theorem dk_46 {code : ByteArray} {pc : Nat} (h : DkAt code pc [46]) : decode code pc = .ok (.iaload, 1) := dk_of ((dk_bind (dk_u1 (h 0 _ rfl))).trans rfl)
theorem dk_47 {code : ByteArray} {pc : Nat} (h : DkAt code pc [47]) : decode code pc = .ok (.laload, 1) := dk_of ((dk_bind (dk_u1 (h 0 _ rfl))).trans rfl)
theorem dk_50 {code : ByteArray} {pc : Nat} (h : DkAt code pc [50]) : decode code pc = .ok (.aaload, 1) := dk_of ((dk_bind (dk_u1 (h 0 _ rfl))).trans rfl)
theorem dk_51 {code : ByteArray} {pc : Nat} (h : DkAt code pc [51]) : decode code pc = .ok (.baload, 1) := dk_of ((dk_bind (dk_u1 (h 0 _ rfl))).trans rfl)
theorem dk_52 {code : ByteArray} {pc : Nat} (h : DkAt code pc [52]) : decode code pc = .ok (.caload, 1) := dk_of ((dk_bind (dk_u1 (h 0 _ rfl))).trans rfl)
theorem dk_53 {code : ByteArray} {pc : Nat} (h : DkAt code pc [53]) : decode code pc = .ok (.saload, 1) := dk_of ((dk_bind (dk_u1 (h 0 _ rfl))).trans rfl)
theorem dk_54 {code : ByteArray} {pc : Nat} (a : UInt8) (h : DkAt code pc [54, a]) : decode code pc = .ok (.istore a.toNat, 2) := dk_of ((dk_bind (dk_u1 (h 0 _ rfl))).trans ((dk_bind (dk_u1 (h 1 _ rfl))).trans rfl))
theorem dk_57 {code : ByteArray} {pc : Nat} (a : UInt8) (h : DkAt code pc [57, a]) : decode code pc = .ok (.dstore a.toNat, 2) := dk_of ((dk_bind (dk_u1 (h 0 _ rfl))).trans ((dk_bind (dk_u1 (h 1 _ rfl))).trans rfl))
theorem dk_58 {code : ByteArray} {pc : Nat} (a : UInt8) (h : DkAt code pc [58, a]) : decode code pc = .ok (.astore a.toNat, 2) := dk_of ((dk_bind (dk_u1 (h 0 _ rfl))).trans ((dk_bind (dk_u1 (h 1 _ rfl))).trans rfl))
theorem dk_59 {code : ByteArray} {pc : Nat} (h : DkAt code pc [59]) : decode code pc = .ok (.istore_n 0, 1) := dk_of ((dk_bind (dk_u1 (h 0 _ rfl))).trans rfl)
theorem dk_60 {code : ByteArray} {pc : Nat} (h : DkAt code pc [60]) : decode code pc = .ok (.istore_n 1, 1) := dk_of ((dk_bind (dk_u1 (h 0 _ rfl))).trans rfl)
theorem dk_61 {code : ByteArray} {pc : Nat} (h : DkAt code pc [61]) : decode code pc = .ok (.istore_n 2, 1) := dk_of ((dk_bind (dk_u1 (h 0 _ rfl))).trans rfl)
theorem dk_62 {code : ByteArray} {pc : Nat} (h : DkAt code pc [62]) : decode code pc = .ok (.istore_n 3, 1) := dk_of ((dk_bind (dk_u1 (h 0 _ rfl))).trans rfl)
theorem dk_76 {code : ByteArray} {pc : Nat} (h : DkAt code pc [76]) : decode code pc = .ok (.astore_n 1, 1) := dk_of ((dk_bind (dk_u1 (h 0 _ rfl))).trans rfl)
theorem dk_77 {code : ByteArray} {pc : Nat} (h : DkAt code pc [77]) : decode code pc = .ok (.astore_n 2, 1) := dk_of ((dk_bind (dk_u1 (h 0 _ rfl))).trans rfl)
theorem dk_78 {code : ByteArray} {pc : Nat} (h : DkAt code pc [78]) : decode code pc = .ok (.astore_n 3, 1) := dk_of ((dk_bind (dk_u1 (h 0 _ rfl))).trans rfl)
theorem dk_79 {code : ByteArray} {pc : Nat} (h : DkAt code pc [79]) : decode code pc = .ok (.iastore, 1) := dk_of ((dk_bind (dk_u1 (h 0 _ rfl))).trans rfl)
theorem dk_80 {code : ByteArray} {pc : Nat} (h : DkAt code pc [80]) : decode code pc = .ok (.lastore, 1) := dk_of ((dk_bind (dk_u1 (h 0 _ rfl))).trans rfl)
theorem dk_83 {code : ByteArray} {pc : Nat} (h : DkAt code pc [83]) : decode code pc = .ok (.aastore, 1) := dk_of ((dk_bind (dk_u1 (h 0 _ rfl))).trans rfl)
theorem dk_84 {code : ByteArray} {pc : Nat} (h : DkAt code pc [84]) : decode code pc = .ok (.bastore, 1) := dk_of ((dk_bind (dk_u1 (h 0 _ rfl))).trans rfl)
theorem dk_85 {code : ByteArray} {pc : Nat} (h : DkAt code pc [85]) : decode code pc = .ok (.castore, 1) := dk_of ((dk_bind (dk_u1 (h 0 _ rfl))).trans rfl)
theorem dk_87 {code : ByteArray} {pc : Nat} (h : DkAt code pc [87]) : decode code pc = .ok (.pop, 1) := dk_of ((dk_bind (dk_u1 (h 0 _ rfl))).trans rfl)
theorem dk_89 {code : ByteArray} {pc : Nat} (h : DkAt code pc [89]) : decode code pc = .ok (.dup, 1) := dk_of ((dk_bind (dk_u1 (h 0 _ rfl))).trans rfl)
theorem dk_90 {code : ByteArray} {pc : Nat} (h : DkAt code pc [90]) : decode code pc = .ok (.dup_x1, 1) := dk_of ((dk_bind (dk_u1 (h 0 _ rfl))).trans rfl)
theorem dk_92 {code : ByteArray} {pc : Nat} (h : DkAt code pc [92]) : decode code pc = .ok (.dup2, 1) := dk_of ((dk_bind (dk_u1 (h 0 _ rfl))).trans rfl)
theorem dk_96 {code : ByteArray} {pc : Nat} (h : DkAt code pc [96]) : decode code pc = .ok (.iadd, 1) := dk_of ((dk_bind (dk_u1 (h 0 _ rfl))).trans rfl)
theorem dk_100 {code : ByteArray} {pc : Nat} (h : DkAt code pc [100]) : decode code pc = .ok (.isub, 1) := dk_of ((dk_bind (dk_u1 (h 0 _ rfl))).trans rfl)
theorem dk_104 {code : ByteArray} {pc : Nat} (h : DkAt code pc [104]) : decode code pc = .ok (.imul, 1) := dk_of ((dk_bind (dk_u1 (h 0 _ rfl))).trans rfl)
theorem dk_108 {code : ByteArray} {pc : Nat} (h : DkAt code pc [108]) : decode code pc = .ok (.idiv, 1) := dk_of ((dk_bind (dk_u1 (h 0 _ rfl))).trans rfl)
theorem dk_110 {code : ByteArray} {pc : Nat} (h : DkAt code pc [110]) : decode code pc = .ok (.fdiv, 1) := dk_of ((dk_bind (dk_u1 (h 0 _ rfl))).trans rfl)
theorem dk_111 {code : ByteArray} {pc : Nat} (h : DkAt code pc [111]) : decode code pc = .ok (.ddiv, 1) := dk_of ((dk_bind (dk_u1 (h 0 _ rfl))).trans rfl)
theorem dk_112 {code : ByteArray} {pc : Nat} (h : DkAt code pc [112]) : decode code pc = .ok (.irem, 1) := dk_of ((dk_bind (dk_u1 (h 0 _ rfl))).trans rfl)
theorem dk_116 {code : ByteArray} {pc : Nat} (h : DkAt code pc [116]) : decode code pc = .ok (.ineg, 1) := dk_of ((dk_bind (dk_u1 (h 0 _ rfl))).trans rfl)
theorem dk_120 {code : ByteArray} {pc : Nat} (h : DkAt code pc [120]) : decode code pc = .ok (.ishl, 1) := dk_of ((dk_bind (dk_u1 (h 0 _ rfl))).trans rfl)
theorem dk_122 {code : ByteArray} {pc : Nat} (h : DkAt code pc [122]) : decode code pc = .ok (.ishr, 1) := dk_of ((dk_bind (dk_u1 (h 0 _ rfl))).trans rfl)
theorem dk_124 {code : ByteArray} {pc : Nat} (h : DkAt code pc [124]) : decode code pc = .ok (.iushr, 1) := dk_of ((dk_bind (dk_u1 (h 0 _ rfl))).trans rfl)
theorem dk_126 {code : ByteArray} {pc : Nat} (h : DkAt code pc [126]) : decode code pc = .ok (.iand, 1) := dk_of ((dk_bind (dk_u1 (h 0 _ rfl))).trans rfl)
theorem dk_128 {code : ByteArray} {pc : Nat} (h : DkAt code pc [128]) : decode code pc = .ok (.ior, 1) := dk_of ((dk_bind (dk_u1 (h 0 _ rfl))).trans rfl)
theorem dk_130 {code : ByteArray} {pc : Nat} (h : DkAt code pc [130]) : decode code pc = .ok (.ixor, 1) := dk_of ((dk_bind (dk_u1 (h 0 _ rfl))).trans rfl)
theorem dk_132 {code : ByteArray} {pc : Nat} (a b : UInt8) (h : DkAt code pc [132, a, b]) : decode code pc = .ok (.iinc a.toNat (Reader.signed 8 b.toNat), 3) := dk_of ((dk_bind (dk_u1 (h 0 _ rfl))).trans ((dk_bind (dk_u1 (h 1 _ rfl))).trans ((dk_bind (dk_map (dk_u1 (h 2 _ rfl)))).trans rfl)))
theorem dk_133 {code : ByteArray} {pc : Nat} (h : DkAt code pc [133]) : decode code pc = .ok (.i2l, 1) := dk_of ((dk_bind (dk_u1 (h 0 _ rfl))).trans rfl)
theorem dk_134 {code : ByteArray} {pc : Nat} (h : DkAt code pc [134]) : decode code pc = .ok (.i2f, 1) := dk_of ((dk_bind (dk_u1 (h 0 _ rfl))).trans rfl)
theorem dk_135 {code : ByteArray} {pc : Nat} (h : DkAt code pc [135]) : decode code pc = .ok (.i2d, 1) := dk_of ((dk_bind (dk_u1 (h 0 _ rfl))).trans rfl)
theorem dk_141 {code : ByteArray} {pc : Nat} (h : DkAt code pc [141]) : decode code pc = .ok (.f2d, 1) := dk_of ((dk_bind (dk_u1 (h 0 _ rfl))).trans rfl)
theorem dk_145 {code : ByteArray} {pc : Nat} (h : DkAt code pc [145]) : decode code pc = .ok (.i2b, 1) := dk_of ((dk_bind (dk_u1 (h 0 _ rfl))).trans rfl)
theorem dk_146 {code : ByteArray} {pc : Nat} (h : DkAt code pc [146]) : decode code pc = .ok (.i2c, 1) := dk_of ((dk_bind (dk_u1 (h 0 _ rfl))).trans rfl)
theorem dk_148 {code : ByteArray} {pc : Nat} (h : DkAt code pc [148]) : decode code pc = .ok (.lcmp, 1) := dk_of ((dk_bind (dk_u1 (h 0 _ rfl))).trans rfl)
theorem dk_151 {code : ByteArray} {pc : Nat} (h : DkAt code pc [151]) : decode code pc = .ok (.dcmp .l, 1) := dk_of ((dk_bind (dk_u1 (h 0 _ rfl))).trans rfl)
theorem dk_153 {code : ByteArray} {pc : Nat} (a b : UInt8) (h : DkAt code pc [153, a, b]) : decode code pc = .ok (.ifCond .eq (Reader.signed 16 (a.toNat * 256 + b.toNat)), 3) := dk_of ((dk_bind (dk_u1 (h 0 _ rfl))).trans ((dk_bind (dk_map (dk_u2 (h 1 _ rfl) (h 2 _ rfl)))).trans rfl))
theorem dk_154 {code : ByteArray} {pc : Nat} (a b : UInt8) (h : DkAt code pc [154, a, b]) : decode code pc = .ok (.ifCond .ne (Reader.signed 16 (a.toNat * 256 + b.toNat)), 3) := dk_of ((dk_bind (dk_u1 (h 0 _ rfl))).trans ((dk_bind (dk_map (dk_u2 (h 1 _ rfl) (h 2 _ rfl)))).trans rfl))
theorem dk_155 {code : ByteArray} {pc : Nat} (a b : UInt8) (h : DkAt code pc [155, a, b]) : decode code pc = .ok (.ifCond .lt (Reader.signed 16 (a.toNat * 256 + b.toNat)), 3) := dk_of ((dk_bind (dk_u1 (h 0 _ rfl))).trans ((dk_bind (dk_map (dk_u2 (h 1 _ rfl) (h 2 _ rfl)))).trans rfl))
theorem dk_156 {code : ByteArray} {pc : Nat} (a b : UInt8) (h : DkAt code pc [156, a, b]) : decode code pc = .ok (.ifCond .ge (Reader.signed 16 (a.toNat * 256 + b.toNat)), 3) := dk_of ((dk_bind (dk_u1 (h 0 _ rfl))).trans ((dk_bind (dk_map (dk_u2 (h 1 _ rfl) (h 2 _ rfl)))).trans rfl))
theorem dk_157 {code : ByteArray} {pc : Nat} (a b : UInt8) (h : DkAt code pc [157, a, b]) : decode code pc = .ok (.ifCond .gt (Reader.signed 16 (a.toNat * 256 + b.toNat)), 3) := dk_of ((dk_bind (dk_u1 (h 0 _ rfl))).trans ((dk_bind (dk_map (dk_u2 (h 1 _ rfl) (h 2 _ rfl)))).trans rfl))
theorem dk_158 {code : ByteArray} {pc : Nat} (a b : UInt8) (h : DkAt code pc [158, a, b]) : decode code pc = .ok (.ifCond .le (Reader.signed 16 (a.toNat * 256 + b.toNat)), 3) := dk_of ((dk_bind (dk_u1 (h 0 _ rfl))).trans ((dk_bind (dk_map (dk_u2 (h 1 _ rfl) (h 2 _ rfl)))).trans rfl))
theorem dk_159 {code : ByteArray} {pc : Nat} (a b : UInt8) (h : DkAt code pc [159, a, b]) : decode code pc = .ok (.if_icmp .eq (Reader.signed 16 (a.toNat * 256 + b.toNat)), 3) := dk_of ((dk_bind (dk_u1 (h 0 _ rfl))).trans ((dk_bind (dk_map (dk_u2 (h 1 _ rfl) (h 2 _ rfl)))).trans rfl))
theorem dk_160 {code : ByteArray} {pc : Nat} (a b : UInt8) (h : DkAt code pc [160, a, b]) : decode code pc = .ok (.if_icmp .ne (Reader.signed 16 (a.toNat * 256 + b.toNat)), 3) := dk_of ((dk_bind (dk_u1 (h 0 _ rfl))).trans ((dk_bind (dk_map (dk_u2 (h 1 _ rfl) (h 2 _ rfl)))).trans rfl))
theorem dk_161 {code : ByteArray} {pc : Nat} (a b : UInt8) (h : DkAt code pc [161, a, b]) : decode code pc = .ok (.if_icmp .lt (Reader.signed 16 (a.toNat * 256 + b.toNat)), 3) := dk_of ((dk_bind (dk_u1 (h 0 _ rfl))).trans ((dk_bind (dk_map (dk_u2 (h 1 _ rfl) (h 2 _ rfl)))).trans rfl))
theorem dk_162 {code : ByteArray} {pc : Nat} (a b : UInt8) (h : DkAt code pc [162, a, b]) : decode code pc = .ok (.if_icmp .ge (Reader.signed 16 (a.toNat * 256 + b.toNat)), 3) := dk_of ((dk_bind (dk_u1 (h 0 _ rfl))).trans ((dk_bind (dk_map (dk_u2 (h 1 _ rfl) (h 2 _ rfl)))).trans rfl))
theorem dk_163 {code : ByteArray} {pc : Nat} (a b : UInt8) (h : DkAt code pc [163, a, b]) : decode code pc = .ok (.if_icmp .gt (Reader.signed 16 (a.toNat * 256 + b.toNat)), 3) := dk_of ((dk_bind (dk_u1 (h 0 _ rfl))).trans ((dk_bind (dk_map (dk_u2 (h 1 _ rfl) (h 2 _ rfl)))).trans rfl))
theorem dk_164 {code : ByteArray} {pc : Nat} (a b : UInt8) (h : DkAt code pc [164, a, b]) : decode code pc = .ok (.if_icmp .le (Reader.signed 16 (a.toNat * 256 + b.toNat)), 3) := dk_of ((dk_bind (dk_u1 (h 0 _ rfl))).trans ((dk_bind (dk_map (dk_u2 (h 1 _ rfl) (h 2 _ rfl)))).trans rfl))
theorem dk_165 {code : ByteArray} {pc : Nat} (a b : UInt8) (h : DkAt code pc [165, a, b]) : decode code pc = .ok (.if_acmp .eq (Reader.signed 16 (a.toNat * 256 + b.toNat)), 3) := dk_of ((dk_bind (dk_u1 (h 0 _ rfl))).trans ((dk_bind (dk_map (dk_u2 (h 1 _ rfl) (h 2 _ rfl)))).trans rfl))
theorem dk_166 {code : ByteArray} {pc : Nat} (a b : UInt8) (h : DkAt code pc [166, a, b]) : decode code pc = .ok (.if_acmp .ne (Reader.signed 16 (a.toNat * 256 + b.toNat)), 3) := dk_of ((dk_bind (dk_u1 (h 0 _ rfl))).trans ((dk_bind (dk_map (dk_u2 (h 1 _ rfl) (h 2 _ rfl)))).trans rfl))
theorem dk_167 {code : ByteArray} {pc : Nat} (a b : UInt8) (h : DkAt code pc [167, a, b]) : decode code pc = .ok (.goto (Reader.signed 16 (a.toNat * 256 + b.toNat)), 3) := dk_of ((dk_bind (dk_u1 (h 0 _ rfl))).trans ((dk_bind (dk_map (dk_u2 (h 1 _ rfl) (h 2 _ rfl)))).trans rfl))
theorem dk_172 {code : ByteArray} {pc : Nat} (h : DkAt code pc [172]) : decode code pc = .ok (.ireturn, 1) := dk_of ((dk_bind (dk_u1 (h 0 _ rfl))).trans rfl)
theorem dk_174 {code : ByteArray} {pc : Nat} (h : DkAt code pc [174]) : decode code pc = .ok (.freturn, 1) := dk_of ((dk_bind (dk_u1 (h 0 _ rfl))).trans rfl)
theorem dk_175 {code : ByteArray} {pc : Nat} (h : DkAt code pc [175]) : decode code pc = .ok (.dreturn, 1) := dk_of ((dk_bind (dk_u1 (h 0 _ rfl))).trans rfl)
theorem dk_176 {code : ByteArray} {pc : Nat} (h : DkAt code pc [176]) : decode code pc = .ok (.areturn, 1) := dk_of ((dk_bind (dk_u1 (h 0 _ rfl))).trans rfl)
theorem dk_177 {code : ByteArray} {pc : Nat} (h : DkAt code pc [177]) : decode code pc = .ok (.return_, 1) := dk_of ((dk_bind (dk_u1 (h 0 _ rfl))).trans rfl)
theorem dk_178 {code : ByteArray} {pc : Nat} (a b : UInt8) (h : DkAt code pc [178, a, b]) : decode code pc = .ok (.getstatic (a.toNat * 256 + b.toNat), 3) := dk_of ((dk_bind (dk_u1 (h 0 _ rfl))).trans ((dk_bind (dk_u2 (h 1 _ rfl) (h 2 _ rfl))).trans rfl))
theorem dk_180 {code : ByteArray} {pc : Nat} (a b : UInt8) (h : DkAt code pc [180, a, b]) : decode code pc = .ok (.getfield (a.toNat * 256 + b.toNat), 3) := dk_of ((dk_bind (dk_u1 (h 0 _ rfl))).trans ((dk_bind (dk_u2 (h 1 _ rfl) (h 2 _ rfl))).trans rfl))
theorem dk_181 {code : ByteArray} {pc : Nat} (a b : UInt8) (h : DkAt code pc [181, a, b]) : decode code pc = .ok (.putfield (a.toNat * 256 + b.toNat), 3) := dk_of ((dk_bind (dk_u1 (h 0 _ rfl))).trans ((dk_bind (dk_u2 (h 1 _ rfl) (h 2 _ rfl))).trans rfl))
theorem dk_182 {code : ByteArray} {pc : Nat} (a b : UInt8) (h : DkAt code pc [182, a, b]) : decode code pc = .ok (.invokevirtual (a.toNat * 256 + b.toNat), 3) := dk_of ((dk_bind (dk_u1 (h 0 _ rfl))).trans ((dk_bind (dk_u2 (h 1 _ rfl) (h 2 _ rfl))).trans rfl))
theorem dk_183 {code : ByteArray} {pc : Nat} (a b : UInt8) (h : DkAt code pc [183, a, b]) : decode code pc = .ok (.invokespecial (a.toNat * 256 + b.toNat), 3) := dk_of ((dk_bind (dk_u1 (h 0 _ rfl))).trans ((dk_bind (dk_u2 (h 1 _ rfl) (h 2 _ rfl))).trans rfl))
theorem dk_184 {code : ByteArray} {pc : Nat} (a b : UInt8) (h : DkAt code pc [184, a, b]) : decode code pc = .ok (.invokestatic (a.toNat * 256 + b.toNat), 3) := dk_of ((dk_bind (dk_u1 (h 0 _ rfl))).trans ((dk_bind (dk_u2 (h 1 _ rfl) (h 2 _ rfl))).trans rfl))
theorem dk_187 {code : ByteArray} {pc : Nat} (a b : UInt8) (h : DkAt code pc [187, a, b]) : decode code pc = .ok (.new (a.toNat * 256 + b.toNat), 3) := dk_of ((dk_bind (dk_u1 (h 0 _ rfl))).trans ((dk_bind (dk_u2 (h 1 _ rfl) (h 2 _ rfl))).trans rfl))
theorem dk_188_5 {code : ByteArray} {pc : Nat} (h : DkAt code pc [188, 5]) : decode code pc = .ok (.newarray .char, 2) := dk_of ((dk_bind (dk_u1 (h 0 _ rfl))).trans ((dk_bind (dk_u1 (h 1 _ rfl))).trans rfl))
theorem dk_188_8 {code : ByteArray} {pc : Nat} (h : DkAt code pc [188, 8]) : decode code pc = .ok (.newarray .byte, 2) := dk_of ((dk_bind (dk_u1 (h 0 _ rfl))).trans ((dk_bind (dk_u1 (h 1 _ rfl))).trans rfl))
theorem dk_188_10 {code : ByteArray} {pc : Nat} (h : DkAt code pc [188, 10]) : decode code pc = .ok (.newarray .int, 2) := dk_of ((dk_bind (dk_u1 (h 0 _ rfl))).trans ((dk_bind (dk_u1 (h 1 _ rfl))).trans rfl))
theorem dk_188_11 {code : ByteArray} {pc : Nat} (h : DkAt code pc [188, 11]) : decode code pc = .ok (.newarray .long, 2) := dk_of ((dk_bind (dk_u1 (h 0 _ rfl))).trans ((dk_bind (dk_u1 (h 1 _ rfl))).trans rfl))
theorem dk_189 {code : ByteArray} {pc : Nat} (a b : UInt8) (h : DkAt code pc [189, a, b]) : decode code pc = .ok (.anewarray (a.toNat * 256 + b.toNat), 3) := dk_of ((dk_bind (dk_u1 (h 0 _ rfl))).trans ((dk_bind (dk_u2 (h 1 _ rfl) (h 2 _ rfl))).trans rfl))
theorem dk_190 {code : ByteArray} {pc : Nat} (h : DkAt code pc [190]) : decode code pc = .ok (.arraylength, 1) := dk_of ((dk_bind (dk_u1 (h 0 _ rfl))).trans rfl)
theorem dk_191 {code : ByteArray} {pc : Nat} (h : DkAt code pc [191]) : decode code pc = .ok (.athrow, 1) := dk_of ((dk_bind (dk_u1 (h 0 _ rfl))).trans rfl)
theorem dk_192 {code : ByteArray} {pc : Nat} (a b : UInt8) (h : DkAt code pc [192, a, b]) : decode code pc = .ok (.checkcast (a.toNat * 256 + b.toNat), 3) := dk_of ((dk_bind (dk_u1 (h 0 _ rfl))).trans ((dk_bind (dk_u2 (h 1 _ rfl) (h 2 _ rfl))).trans rfl))
theorem dk_193 {code : ByteArray} {pc : Nat} (a b : UInt8) (h : DkAt code pc [193, a, b]) : decode code pc = .ok (.instanceof (a.toNat * 256 + b.toNat), 3) := dk_of ((dk_bind (dk_u1 (h 0 _ rfl))).trans ((dk_bind (dk_u2 (h 1 _ rfl) (h 2 _ rfl))).trans rfl))
theorem dk_198 {code : ByteArray} {pc : Nat} (a b : UInt8) (h : DkAt code pc [198, a, b]) : decode code pc = .ok (.ifnull (Reader.signed 16 (a.toNat * 256 + b.toNat)), 3) := dk_of ((dk_bind (dk_u1 (h 0 _ rfl))).trans ((dk_bind (dk_map (dk_u2 (h 1 _ rfl) (h 2 _ rfl)))).trans rfl))
theorem dk_199 {code : ByteArray} {pc : Nat} (a b : UInt8) (h : DkAt code pc [199, a, b]) : decode code pc = .ok (.ifnonnull (Reader.signed 16 (a.toNat * 256 + b.toNat)), 3) := dk_of ((dk_bind (dk_u1 (h 0 _ rfl))).trans ((dk_bind (dk_map (dk_u2 (h 1 _ rfl) (h 2 _ rfl)))).trans rfl))

/-! java/util/AbstractCollection -/
set_option maxRecDepth 100000
def RJ0 : String := "java/util/AbstractCollection"
abbrev cJ0_init : ByteArray := prog_40_method_1_code
def yJ0_init : MethodName := ⟨RJ0, "<init>", "()V"⟩
theorem dJ0_init_0 : decode cJ0_init 0 = .ok (.aload_n 0, 1) := by decide +kernel
theorem dJ0_init_1 : decode cJ0_init 1 = .ok (.invokespecial 1, 3) := by decide +kernel
theorem dJ0_init_4 : decode cJ0_init 4 = .ok (.return_, 1) := by decide +kernel
theorem q117 : (Jvm.Cond.initialized "java/util/AbstractCollection") ∈ lw_all := lw_g (lw_at lw_m1 2 rfl) rfl
theorem q170 : (Jvm.Cond.instanceMethod ({ cls := "java/util/AbstractCollection", name := "<init>", desc := "()V" } : Jvm.MethodName)) ∈ lw_all := lw_g (lw_at lw_m1 55 rfl) rfl
theorem q171 : (Jvm.Cond.code ({ cls := "java/util/AbstractCollection", name := "<init>", desc := "()V" } : Jvm.MethodName) prog_40_method_1_code (1 : Nat) (Option.none : Option Jvm.ClassFile.FieldType)) ∈ lw_all := lw_g (lw_at lw_m1 56 rfl) rfl
theorem q172 : (Jvm.Cond.methodLink "java/util/AbstractCollection" (1 : Nat) ({ cls := "java/lang/Object", name := "<init>", desc := "()V" } : Jvm.MethodName)) ∈ lw_all := lw_g (lw_at lw_m1 57 rfl) rfl

/-! java/util/ArrayDeque -/
set_option maxRecDepth 100000
def RJ1 : String := "java/util/ArrayDeque"
def TJ1 : u_T := fun k => match k with
  | 0 => ("java/util/ArrayDeque", "elements", "[Ljava/lang/Object;", false)
  | 1 => ("java/util/ArrayDeque", "head", "I", false)
  | _ => ("java/util/ArrayDeque", "tail", "I", false)
def tyJ1 : Nat → FieldType := fun k => match k with
  | 0 => .array (.object "java/lang/Object")
  | 1 => .int
  | _ => .int
abbrev wsJ10 : List Cond := u_ws RJ1 TJ1 3
theorem nmJ1 : ∀ a, a < 3 → ∀ b, b < 3 → a ≠ b → (TJ1 a).2.1 ≠ (TJ1 b).2.1 := by decide +kernel
theorem tyJ1_ok : ∀ k, k < 3 → parseFieldDescriptor (TJ1 k).2.2.1 = some (tyJ1 k) := by decide +kernel
abbrev cJ1_init : ByteArray := prog_42_method_3_code
def yJ1_init : MethodName := ⟨RJ1, "<init>", "()V"⟩
def dkwJ1_init_0 : List UInt8 := [42, 183, 0, 42, 42, 16, 17, 189, 0, 47, 181, 0, 3, 177]
abbrev dktJ1_init_0 : List UInt8 := dkwJ1_init_0 ++ []
theorem dksJ1_init_0 : cJ1_init.data.toList.drop 0 = dktJ1_init_0 := by decide +kernel
theorem dJ1_init_0 : decode cJ1_init 0 = .ok (.aload_n 0, 1) := dk_42 (dk_at dksJ1_init_0 0 rfl rfl)
theorem dJ1_init_1 : decode cJ1_init 1 = .ok (.invokespecial 42, 3) := dk_183 0 42 (dk_at dksJ1_init_0 1 rfl rfl)
theorem dJ1_init_4 : decode cJ1_init 4 = .ok (.aload_n 0, 1) := dk_42 (dk_at dksJ1_init_0 4 rfl rfl)
theorem dJ1_init_5 : decode cJ1_init 5 = .ok (.bipush 17, 2) := dk_16 17 (dk_at dksJ1_init_0 5 rfl rfl)
theorem dJ1_init_7 : decode cJ1_init 7 = .ok (.anewarray 47, 3) := dk_189 0 47 (dk_at dksJ1_init_0 7 rfl rfl)
theorem dJ1_init_10 : decode cJ1_init 10 = .ok (.putfield 3, 3) := dk_181 0 3 (dk_at dksJ1_init_0 10 rfl rfl)
theorem dJ1_init_13 : decode cJ1_init 13 = .ok (.return_, 1) := dk_177 (dk_at dksJ1_init_0 13 rfl rfl)
abbrev cJ1_addLast : ByteArray := prog_42_method_13_code
def yJ1_addLast : MethodName := ⟨RJ1, "addLast", "(Ljava/lang/Object;)V"⟩
def dkwJ1_addLast_2 : List UInt8 := [182, 0, 71, 177]
abbrev dktJ1_addLast_2 : List UInt8 := dkwJ1_addLast_2 ++ []
def dkwJ1_addLast_1 : List UInt8 := [42, 180, 0, 24, 42, 42, 180, 0, 20, 44, 190, 184, 0, 74, 90, 181, 0, 20, 160, 0, 8, 42, 4]
abbrev dktJ1_addLast_1 : List UInt8 := dkwJ1_addLast_1 ++ dktJ1_addLast_2
def dkwJ1_addLast_0 : List UInt8 := [43, 199, 0, 11, 187, 0, 65, 89, 183, 0, 67, 191, 42, 180, 0, 3, 77, 44, 42, 180, 0, 20, 43, 83]
abbrev dktJ1_addLast_0 : List UInt8 := dkwJ1_addLast_0 ++ dktJ1_addLast_1
theorem dksJ1_addLast_0 : cJ1_addLast.data.toList.drop 0 = dktJ1_addLast_0 := by decide +kernel
theorem dksJ1_addLast_1 : cJ1_addLast.data.toList.drop 24 = dktJ1_addLast_1 := dk_seg dksJ1_addLast_0 24 rfl rfl
theorem dksJ1_addLast_2 : cJ1_addLast.data.toList.drop 47 = dktJ1_addLast_2 := dk_seg dksJ1_addLast_1 23 rfl rfl
theorem dJ1_addLast_0 : decode cJ1_addLast 0 = .ok (.aload_n 1, 1) := dk_43 (dk_at dksJ1_addLast_0 0 rfl rfl)
theorem dJ1_addLast_1 : decode cJ1_addLast 1 = .ok (.ifnonnull 11, 3) := dk_199 0 11 (dk_at dksJ1_addLast_0 1 rfl rfl)
theorem dJ1_addLast_4 : decode cJ1_addLast 4 = .ok (.new 65, 3) := dk_187 0 65 (dk_at dksJ1_addLast_0 4 rfl rfl)
theorem dJ1_addLast_7 : decode cJ1_addLast 7 = .ok (.dup, 1) := dk_89 (dk_at dksJ1_addLast_0 7 rfl rfl)
theorem dJ1_addLast_8 : decode cJ1_addLast 8 = .ok (.invokespecial 67, 3) := dk_183 0 67 (dk_at dksJ1_addLast_0 8 rfl rfl)
theorem dJ1_addLast_11 : decode cJ1_addLast 11 = .ok (.athrow, 1) := dk_191 (dk_at dksJ1_addLast_0 11 rfl rfl)
theorem dJ1_addLast_12 : decode cJ1_addLast 12 = .ok (.aload_n 0, 1) := dk_42 (dk_at dksJ1_addLast_0 12 rfl rfl)
theorem dJ1_addLast_13 : decode cJ1_addLast 13 = .ok (.getfield 3, 3) := dk_180 0 3 (dk_at dksJ1_addLast_0 13 rfl rfl)
theorem dJ1_addLast_16 : decode cJ1_addLast 16 = .ok (.astore_n 2, 1) := dk_77 (dk_at dksJ1_addLast_0 16 rfl rfl)
theorem dJ1_addLast_17 : decode cJ1_addLast 17 = .ok (.aload_n 2, 1) := dk_44 (dk_at dksJ1_addLast_0 17 rfl rfl)
theorem dJ1_addLast_18 : decode cJ1_addLast 18 = .ok (.aload_n 0, 1) := dk_42 (dk_at dksJ1_addLast_0 18 rfl rfl)
theorem dJ1_addLast_19 : decode cJ1_addLast 19 = .ok (.getfield 20, 3) := dk_180 0 20 (dk_at dksJ1_addLast_0 19 rfl rfl)
theorem dJ1_addLast_22 : decode cJ1_addLast 22 = .ok (.aload_n 1, 1) := dk_43 (dk_at dksJ1_addLast_0 22 rfl rfl)
theorem dJ1_addLast_23 : decode cJ1_addLast 23 = .ok (.aastore, 1) := dk_83 (dk_at dksJ1_addLast_0 23 rfl rfl)
theorem dJ1_addLast_24 : decode cJ1_addLast 24 = .ok (.aload_n 0, 1) := dk_42 (dk_at dksJ1_addLast_1 0 rfl rfl)
theorem dJ1_addLast_25 : decode cJ1_addLast 25 = .ok (.getfield 24, 3) := dk_180 0 24 (dk_at dksJ1_addLast_1 1 rfl rfl)
theorem dJ1_addLast_28 : decode cJ1_addLast 28 = .ok (.aload_n 0, 1) := dk_42 (dk_at dksJ1_addLast_1 4 rfl rfl)
theorem dJ1_addLast_29 : decode cJ1_addLast 29 = .ok (.aload_n 0, 1) := dk_42 (dk_at dksJ1_addLast_1 5 rfl rfl)
theorem dJ1_addLast_30 : decode cJ1_addLast 30 = .ok (.getfield 20, 3) := dk_180 0 20 (dk_at dksJ1_addLast_1 6 rfl rfl)
theorem dJ1_addLast_33 : decode cJ1_addLast 33 = .ok (.aload_n 2, 1) := dk_44 (dk_at dksJ1_addLast_1 9 rfl rfl)
theorem dJ1_addLast_34 : decode cJ1_addLast 34 = .ok (.arraylength, 1) := dk_190 (dk_at dksJ1_addLast_1 10 rfl rfl)
theorem dJ1_addLast_35 : decode cJ1_addLast 35 = .ok (.invokestatic 74, 3) := dk_184 0 74 (dk_at dksJ1_addLast_1 11 rfl rfl)
theorem dJ1_addLast_38 : decode cJ1_addLast 38 = .ok (.dup_x1, 1) := dk_90 (dk_at dksJ1_addLast_1 14 rfl rfl)
theorem dJ1_addLast_39 : decode cJ1_addLast 39 = .ok (.putfield 20, 3) := dk_181 0 20 (dk_at dksJ1_addLast_1 15 rfl rfl)
theorem dJ1_addLast_42 : decode cJ1_addLast 42 = .ok (.if_icmp .ne 8, 3) := dk_160 0 8 (dk_at dksJ1_addLast_1 18 rfl rfl)
theorem dJ1_addLast_45 : decode cJ1_addLast 45 = .ok (.aload_n 0, 1) := dk_42 (dk_at dksJ1_addLast_1 21 rfl rfl)
theorem dJ1_addLast_46 : decode cJ1_addLast 46 = .ok (.iconst 1, 1) := dk_4 (dk_at dksJ1_addLast_1 22 rfl rfl)
theorem dJ1_addLast_47 : decode cJ1_addLast 47 = .ok (.invokevirtual 71, 3) := dk_182 0 71 (dk_at dksJ1_addLast_2 0 rfl rfl)
theorem dJ1_addLast_50 : decode cJ1_addLast 50 = .ok (.return_, 1) := dk_177 (dk_at dksJ1_addLast_2 3 rfl rfl)
abbrev cJ1_inc : ByteArray := prog_42_method_6_code
def yJ1_inc : MethodName := ⟨RJ1, "inc", "(II)I"⟩
def dkwJ1_inc_0 : List UInt8 := [132, 0, 1, 26, 27, 161, 0, 5, 3, 59, 26, 172]
abbrev dktJ1_inc_0 : List UInt8 := dkwJ1_inc_0 ++ []
theorem dksJ1_inc_0 : cJ1_inc.data.toList.drop 0 = dktJ1_inc_0 := by decide +kernel
theorem dJ1_inc_0 : decode cJ1_inc 0 = .ok (.iinc 0 1, 3) := dk_132 0 1 (dk_at dksJ1_inc_0 0 rfl rfl)
theorem dJ1_inc_3 : decode cJ1_inc 3 = .ok (.iload_n 0, 1) := dk_26 (dk_at dksJ1_inc_0 3 rfl rfl)
theorem dJ1_inc_4 : decode cJ1_inc 4 = .ok (.iload_n 1, 1) := dk_27 (dk_at dksJ1_inc_0 4 rfl rfl)
theorem dJ1_inc_5 : decode cJ1_inc 5 = .ok (.if_icmp .lt 5, 3) := dk_161 0 5 (dk_at dksJ1_inc_0 5 rfl rfl)
theorem dJ1_inc_8 : decode cJ1_inc 8 = .ok (.iconst 0, 1) := dk_3 (dk_at dksJ1_inc_0 8 rfl rfl)
theorem dJ1_inc_9 : decode cJ1_inc 9 = .ok (.istore_n 0, 1) := dk_59 (dk_at dksJ1_inc_0 9 rfl rfl)
theorem dJ1_inc_10 : decode cJ1_inc 10 = .ok (.iload_n 0, 1) := dk_26 (dk_at dksJ1_inc_0 10 rfl rfl)
theorem dJ1_inc_11 : decode cJ1_inc 11 = .ok (.ireturn, 1) := dk_172 (dk_at dksJ1_inc_0 11 rfl rfl)
abbrev cJ1_grow : ByteArray := prog_42_method_1_code
def yJ1_grow : MethodName := ⟨RJ1, "grow", "(I)V"⟩
def dkwJ1_grow_7 : List UInt8 := [177]
abbrev dktJ1_grow_7 : List UInt8 := dkwJ1_grow_7 ++ []
def dkwJ1_grow_6 : List UInt8 := [181, 0, 24, 54, 8, 21, 7, 21, 8, 162, 0, 15, 25, 5, 21, 7, 1, 83, 132, 7, 1, 167, 255, 240]
abbrev dktJ1_grow_6 : List UInt8 := dkwJ1_grow_6 ++ dktJ1_grow_7
def dkwJ1_grow_5 : List UInt8 := [42, 180, 0, 24, 100, 184, 0, 27, 42, 180, 0, 24, 54, 7, 42, 89, 180, 0, 24, 21, 6, 96, 90]
abbrev dktJ1_grow_5 : List UInt8 := dkwJ1_grow_5 ++ dktJ1_grow_6
def dkwJ1_grow_4 : List UInt8 := [198, 0, 71, 29, 28, 100, 54, 6, 25, 5, 42, 180, 0, 24, 25, 5, 42, 180, 0, 24, 21, 6, 96, 28]
abbrev dktJ1_grow_4 : List UInt8 := dkwJ1_grow_4 ++ dktJ1_grow_5
def dkwJ1_grow_3 : List UInt8 := [180, 0, 24, 161, 0, 24, 42, 180, 0, 20, 42, 180, 0, 24, 160, 0, 81, 25, 5, 42, 180, 0, 24, 50]
abbrev dktJ1_grow_3 : List UInt8 := dkwJ1_grow_3 ++ dktJ1_grow_4
def dkwJ1_grow_2 : List UInt8 := [182, 0, 10, 62, 42, 42, 180, 0, 3, 29, 184, 0, 14, 90, 181, 0, 3, 58, 5, 42, 180, 0, 20, 42]
abbrev dktJ1_grow_2 : List UInt8 := dkwJ1_grow_2 ++ dktJ1_grow_3
def dkwJ1_grow_1 : List UInt8 := [21, 4, 27, 161, 0, 15, 28, 21, 4, 96, 89, 62, 18, 9, 100, 158, 0, 11, 42, 27, 21, 4]
abbrev dktJ1_grow_1 : List UInt8 := dkwJ1_grow_1 ++ dktJ1_grow_2
def dkwJ1_grow_0 : List UInt8 := [42, 180, 0, 3, 190, 61, 28, 16, 64, 162, 0, 9, 28, 5, 96, 167, 0, 6, 28, 4, 122, 54, 4]
abbrev dktJ1_grow_0 : List UInt8 := dkwJ1_grow_0 ++ dktJ1_grow_1
theorem dksJ1_grow_0 : cJ1_grow.data.toList.drop 0 = dktJ1_grow_0 := by decide +kernel
theorem dksJ1_grow_1 : cJ1_grow.data.toList.drop 23 = dktJ1_grow_1 := dk_seg dksJ1_grow_0 23 rfl rfl
theorem dksJ1_grow_2 : cJ1_grow.data.toList.drop 45 = dktJ1_grow_2 := dk_seg dksJ1_grow_1 22 rfl rfl
theorem dksJ1_grow_3 : cJ1_grow.data.toList.drop 69 = dktJ1_grow_3 := dk_seg dksJ1_grow_2 24 rfl rfl
theorem dksJ1_grow_4 : cJ1_grow.data.toList.drop 93 = dktJ1_grow_4 := dk_seg dksJ1_grow_3 24 rfl rfl
theorem dksJ1_grow_5 : cJ1_grow.data.toList.drop 117 = dktJ1_grow_5 := dk_seg dksJ1_grow_4 24 rfl rfl
theorem dksJ1_grow_6 : cJ1_grow.data.toList.drop 140 = dktJ1_grow_6 := dk_seg dksJ1_grow_5 23 rfl rfl
theorem dksJ1_grow_7 : cJ1_grow.data.toList.drop 164 = dktJ1_grow_7 := dk_seg dksJ1_grow_6 24 rfl rfl
theorem dJ1_grow_0 : decode cJ1_grow 0 = .ok (.aload_n 0, 1) := dk_42 (dk_at dksJ1_grow_0 0 rfl rfl)
theorem dJ1_grow_1 : decode cJ1_grow 1 = .ok (.getfield 3, 3) := dk_180 0 3 (dk_at dksJ1_grow_0 1 rfl rfl)
theorem dJ1_grow_4 : decode cJ1_grow 4 = .ok (.arraylength, 1) := dk_190 (dk_at dksJ1_grow_0 4 rfl rfl)
theorem dJ1_grow_5 : decode cJ1_grow 5 = .ok (.istore_n 2, 1) := dk_61 (dk_at dksJ1_grow_0 5 rfl rfl)
theorem dJ1_grow_6 : decode cJ1_grow 6 = .ok (.iload_n 2, 1) := dk_28 (dk_at dksJ1_grow_0 6 rfl rfl)
theorem dJ1_grow_7 : decode cJ1_grow 7 = .ok (.bipush 64, 2) := dk_16 64 (dk_at dksJ1_grow_0 7 rfl rfl)
theorem dJ1_grow_9 : decode cJ1_grow 9 = .ok (.if_icmp .ge 9, 3) := dk_162 0 9 (dk_at dksJ1_grow_0 9 rfl rfl)
theorem dJ1_grow_12 : decode cJ1_grow 12 = .ok (.iload_n 2, 1) := dk_28 (dk_at dksJ1_grow_0 12 rfl rfl)
theorem dJ1_grow_13 : decode cJ1_grow 13 = .ok (.iconst 2, 1) := dk_5 (dk_at dksJ1_grow_0 13 rfl rfl)
theorem dJ1_grow_14 : decode cJ1_grow 14 = .ok (.iadd, 1) := dk_96 (dk_at dksJ1_grow_0 14 rfl rfl)
theorem dJ1_grow_15 : decode cJ1_grow 15 = .ok (.goto 6, 3) := dk_167 0 6 (dk_at dksJ1_grow_0 15 rfl rfl)
theorem dJ1_grow_18 : decode cJ1_grow 18 = .ok (.iload_n 2, 1) := dk_28 (dk_at dksJ1_grow_0 18 rfl rfl)
theorem dJ1_grow_19 : decode cJ1_grow 19 = .ok (.iconst 1, 1) := dk_4 (dk_at dksJ1_grow_0 19 rfl rfl)
theorem dJ1_grow_20 : decode cJ1_grow 20 = .ok (.ishr, 1) := dk_122 (dk_at dksJ1_grow_0 20 rfl rfl)
theorem dJ1_grow_21 : decode cJ1_grow 21 = .ok (.istore 4, 2) := dk_54 4 (dk_at dksJ1_grow_0 21 rfl rfl)
theorem dJ1_grow_23 : decode cJ1_grow 23 = .ok (.iload 4, 2) := dk_21 4 (dk_at dksJ1_grow_1 0 rfl rfl)
theorem dJ1_grow_25 : decode cJ1_grow 25 = .ok (.iload_n 1, 1) := dk_27 (dk_at dksJ1_grow_1 2 rfl rfl)
theorem dJ1_grow_26 : decode cJ1_grow 26 = .ok (.if_icmp .lt 15, 3) := dk_161 0 15 (dk_at dksJ1_grow_1 3 rfl rfl)
theorem dJ1_grow_29 : decode cJ1_grow 29 = .ok (.iload_n 2, 1) := dk_28 (dk_at dksJ1_grow_1 6 rfl rfl)
theorem dJ1_grow_30 : decode cJ1_grow 30 = .ok (.iload 4, 2) := dk_21 4 (dk_at dksJ1_grow_1 7 rfl rfl)
theorem dJ1_grow_32 : decode cJ1_grow 32 = .ok (.iadd, 1) := dk_96 (dk_at dksJ1_grow_1 9 rfl rfl)
theorem dJ1_grow_33 : decode cJ1_grow 33 = .ok (.dup, 1) := dk_89 (dk_at dksJ1_grow_1 10 rfl rfl)
theorem dJ1_grow_34 : decode cJ1_grow 34 = .ok (.istore_n 3, 1) := dk_62 (dk_at dksJ1_grow_1 11 rfl rfl)
theorem dJ1_grow_35 : decode cJ1_grow 35 = .ok (.ldc 9, 2) := dk_18 9 (dk_at dksJ1_grow_1 12 rfl rfl)
theorem dJ1_grow_37 : decode cJ1_grow 37 = .ok (.isub, 1) := dk_100 (dk_at dksJ1_grow_1 14 rfl rfl)
theorem dJ1_grow_38 : decode cJ1_grow 38 = .ok (.ifCond .le 11, 3) := dk_158 0 11 (dk_at dksJ1_grow_1 15 rfl rfl)
theorem dJ1_grow_41 : decode cJ1_grow 41 = .ok (.aload_n 0, 1) := dk_42 (dk_at dksJ1_grow_1 18 rfl rfl)
theorem dJ1_grow_42 : decode cJ1_grow 42 = .ok (.iload_n 1, 1) := dk_27 (dk_at dksJ1_grow_1 19 rfl rfl)
theorem dJ1_grow_43 : decode cJ1_grow 43 = .ok (.iload 4, 2) := dk_21 4 (dk_at dksJ1_grow_1 20 rfl rfl)
theorem dJ1_grow_45 : decode cJ1_grow 45 = .ok (.invokevirtual 10, 3) := dk_182 0 10 (dk_at dksJ1_grow_2 0 rfl rfl)
theorem dJ1_grow_48 : decode cJ1_grow 48 = .ok (.istore_n 3, 1) := dk_62 (dk_at dksJ1_grow_2 3 rfl rfl)
theorem dJ1_grow_49 : decode cJ1_grow 49 = .ok (.aload_n 0, 1) := dk_42 (dk_at dksJ1_grow_2 4 rfl rfl)
theorem dJ1_grow_50 : decode cJ1_grow 50 = .ok (.aload_n 0, 1) := dk_42 (dk_at dksJ1_grow_2 5 rfl rfl)
theorem dJ1_grow_51 : decode cJ1_grow 51 = .ok (.getfield 3, 3) := dk_180 0 3 (dk_at dksJ1_grow_2 6 rfl rfl)
theorem dJ1_grow_54 : decode cJ1_grow 54 = .ok (.iload_n 3, 1) := dk_29 (dk_at dksJ1_grow_2 9 rfl rfl)
theorem dJ1_grow_55 : decode cJ1_grow 55 = .ok (.invokestatic 14, 3) := dk_184 0 14 (dk_at dksJ1_grow_2 10 rfl rfl)
theorem dJ1_grow_58 : decode cJ1_grow 58 = .ok (.dup_x1, 1) := dk_90 (dk_at dksJ1_grow_2 13 rfl rfl)
theorem dJ1_grow_59 : decode cJ1_grow 59 = .ok (.putfield 3, 3) := dk_181 0 3 (dk_at dksJ1_grow_2 14 rfl rfl)
theorem dJ1_grow_62 : decode cJ1_grow 62 = .ok (.astore 5, 2) := dk_58 5 (dk_at dksJ1_grow_2 17 rfl rfl)
theorem dJ1_grow_64 : decode cJ1_grow 64 = .ok (.aload_n 0, 1) := dk_42 (dk_at dksJ1_grow_2 19 rfl rfl)
theorem dJ1_grow_65 : decode cJ1_grow 65 = .ok (.getfield 20, 3) := dk_180 0 20 (dk_at dksJ1_grow_2 20 rfl rfl)
theorem dJ1_grow_68 : decode cJ1_grow 68 = .ok (.aload_n 0, 1) := dk_42 (dk_at dksJ1_grow_2 23 rfl rfl)
theorem dJ1_grow_69 : decode cJ1_grow 69 = .ok (.getfield 24, 3) := dk_180 0 24 (dk_at dksJ1_grow_3 0 rfl rfl)
theorem dJ1_grow_72 : decode cJ1_grow 72 = .ok (.if_icmp .lt 24, 3) := dk_161 0 24 (dk_at dksJ1_grow_3 3 rfl rfl)
theorem dJ1_grow_75 : decode cJ1_grow 75 = .ok (.aload_n 0, 1) := dk_42 (dk_at dksJ1_grow_3 6 rfl rfl)
theorem dJ1_grow_76 : decode cJ1_grow 76 = .ok (.getfield 20, 3) := dk_180 0 20 (dk_at dksJ1_grow_3 7 rfl rfl)
theorem dJ1_grow_79 : decode cJ1_grow 79 = .ok (.aload_n 0, 1) := dk_42 (dk_at dksJ1_grow_3 10 rfl rfl)
theorem dJ1_grow_80 : decode cJ1_grow 80 = .ok (.getfield 24, 3) := dk_180 0 24 (dk_at dksJ1_grow_3 11 rfl rfl)
theorem dJ1_grow_83 : decode cJ1_grow 83 = .ok (.if_icmp .ne 81, 3) := dk_160 0 81 (dk_at dksJ1_grow_3 14 rfl rfl)
theorem dJ1_grow_86 : decode cJ1_grow 86 = .ok (.aload 5, 2) := dk_25 5 (dk_at dksJ1_grow_3 17 rfl rfl)
theorem dJ1_grow_88 : decode cJ1_grow 88 = .ok (.aload_n 0, 1) := dk_42 (dk_at dksJ1_grow_3 19 rfl rfl)
theorem dJ1_grow_89 : decode cJ1_grow 89 = .ok (.getfield 24, 3) := dk_180 0 24 (dk_at dksJ1_grow_3 20 rfl rfl)
theorem dJ1_grow_92 : decode cJ1_grow 92 = .ok (.aaload, 1) := dk_50 (dk_at dksJ1_grow_3 23 rfl rfl)
theorem dJ1_grow_93 : decode cJ1_grow 93 = .ok (.ifnull 71, 3) := dk_198 0 71 (dk_at dksJ1_grow_4 0 rfl rfl)
theorem dJ1_grow_96 : decode cJ1_grow 96 = .ok (.iload_n 3, 1) := dk_29 (dk_at dksJ1_grow_4 3 rfl rfl)
theorem dJ1_grow_97 : decode cJ1_grow 97 = .ok (.iload_n 2, 1) := dk_28 (dk_at dksJ1_grow_4 4 rfl rfl)
theorem dJ1_grow_98 : decode cJ1_grow 98 = .ok (.isub, 1) := dk_100 (dk_at dksJ1_grow_4 5 rfl rfl)
theorem dJ1_grow_99 : decode cJ1_grow 99 = .ok (.istore 6, 2) := dk_54 6 (dk_at dksJ1_grow_4 6 rfl rfl)
theorem dJ1_grow_101 : decode cJ1_grow 101 = .ok (.aload 5, 2) := dk_25 5 (dk_at dksJ1_grow_4 8 rfl rfl)
theorem dJ1_grow_103 : decode cJ1_grow 103 = .ok (.aload_n 0, 1) := dk_42 (dk_at dksJ1_grow_4 10 rfl rfl)
theorem dJ1_grow_104 : decode cJ1_grow 104 = .ok (.getfield 24, 3) := dk_180 0 24 (dk_at dksJ1_grow_4 11 rfl rfl)
theorem dJ1_grow_107 : decode cJ1_grow 107 = .ok (.aload 5, 2) := dk_25 5 (dk_at dksJ1_grow_4 14 rfl rfl)
theorem dJ1_grow_109 : decode cJ1_grow 109 = .ok (.aload_n 0, 1) := dk_42 (dk_at dksJ1_grow_4 16 rfl rfl)
theorem dJ1_grow_110 : decode cJ1_grow 110 = .ok (.getfield 24, 3) := dk_180 0 24 (dk_at dksJ1_grow_4 17 rfl rfl)
theorem dJ1_grow_113 : decode cJ1_grow 113 = .ok (.iload 6, 2) := dk_21 6 (dk_at dksJ1_grow_4 20 rfl rfl)
theorem dJ1_grow_115 : decode cJ1_grow 115 = .ok (.iadd, 1) := dk_96 (dk_at dksJ1_grow_4 22 rfl rfl)
theorem dJ1_grow_116 : decode cJ1_grow 116 = .ok (.iload_n 2, 1) := dk_28 (dk_at dksJ1_grow_4 23 rfl rfl)
theorem dJ1_grow_117 : decode cJ1_grow 117 = .ok (.aload_n 0, 1) := dk_42 (dk_at dksJ1_grow_5 0 rfl rfl)
theorem dJ1_grow_118 : decode cJ1_grow 118 = .ok (.getfield 24, 3) := dk_180 0 24 (dk_at dksJ1_grow_5 1 rfl rfl)
theorem dJ1_grow_121 : decode cJ1_grow 121 = .ok (.isub, 1) := dk_100 (dk_at dksJ1_grow_5 4 rfl rfl)
theorem dJ1_grow_122 : decode cJ1_grow 122 = .ok (.invokestatic 27, 3) := dk_184 0 27 (dk_at dksJ1_grow_5 5 rfl rfl)
theorem dJ1_grow_125 : decode cJ1_grow 125 = .ok (.aload_n 0, 1) := dk_42 (dk_at dksJ1_grow_5 8 rfl rfl)
theorem dJ1_grow_126 : decode cJ1_grow 126 = .ok (.getfield 24, 3) := dk_180 0 24 (dk_at dksJ1_grow_5 9 rfl rfl)
theorem dJ1_grow_129 : decode cJ1_grow 129 = .ok (.istore 7, 2) := dk_54 7 (dk_at dksJ1_grow_5 12 rfl rfl)
theorem dJ1_grow_131 : decode cJ1_grow 131 = .ok (.aload_n 0, 1) := dk_42 (dk_at dksJ1_grow_5 14 rfl rfl)
theorem dJ1_grow_132 : decode cJ1_grow 132 = .ok (.dup, 1) := dk_89 (dk_at dksJ1_grow_5 15 rfl rfl)
theorem dJ1_grow_133 : decode cJ1_grow 133 = .ok (.getfield 24, 3) := dk_180 0 24 (dk_at dksJ1_grow_5 16 rfl rfl)
theorem dJ1_grow_136 : decode cJ1_grow 136 = .ok (.iload 6, 2) := dk_21 6 (dk_at dksJ1_grow_5 19 rfl rfl)
theorem dJ1_grow_138 : decode cJ1_grow 138 = .ok (.iadd, 1) := dk_96 (dk_at dksJ1_grow_5 21 rfl rfl)
theorem dJ1_grow_139 : decode cJ1_grow 139 = .ok (.dup_x1, 1) := dk_90 (dk_at dksJ1_grow_5 22 rfl rfl)
theorem dJ1_grow_140 : decode cJ1_grow 140 = .ok (.putfield 24, 3) := dk_181 0 24 (dk_at dksJ1_grow_6 0 rfl rfl)
theorem dJ1_grow_143 : decode cJ1_grow 143 = .ok (.istore 8, 2) := dk_54 8 (dk_at dksJ1_grow_6 3 rfl rfl)
theorem dJ1_grow_145 : decode cJ1_grow 145 = .ok (.iload 7, 2) := dk_21 7 (dk_at dksJ1_grow_6 5 rfl rfl)
theorem dJ1_grow_147 : decode cJ1_grow 147 = .ok (.iload 8, 2) := dk_21 8 (dk_at dksJ1_grow_6 7 rfl rfl)
theorem dJ1_grow_149 : decode cJ1_grow 149 = .ok (.if_icmp .ge 15, 3) := dk_162 0 15 (dk_at dksJ1_grow_6 9 rfl rfl)
theorem dJ1_grow_152 : decode cJ1_grow 152 = .ok (.aload 5, 2) := dk_25 5 (dk_at dksJ1_grow_6 12 rfl rfl)
theorem dJ1_grow_154 : decode cJ1_grow 154 = .ok (.iload 7, 2) := dk_21 7 (dk_at dksJ1_grow_6 14 rfl rfl)
theorem dJ1_grow_156 : decode cJ1_grow 156 = .ok (.aconst_null, 1) := dk_1 (dk_at dksJ1_grow_6 16 rfl rfl)
theorem dJ1_grow_157 : decode cJ1_grow 157 = .ok (.aastore, 1) := dk_83 (dk_at dksJ1_grow_6 17 rfl rfl)
theorem dJ1_grow_158 : decode cJ1_grow 158 = .ok (.iinc 7 1, 3) := dk_132 7 1 (dk_at dksJ1_grow_6 18 rfl rfl)
theorem dJ1_grow_161 : decode cJ1_grow 161 = .ok (.goto (-16), 3) := dk_167 255 240 (dk_at dksJ1_grow_6 21 rfl rfl)
theorem dJ1_grow_164 : decode cJ1_grow 164 = .ok (.return_, 1) := dk_177 (dk_at dksJ1_grow_7 0 rfl rfl)
abbrev cJ1_newCapacity : ByteArray := prog_42_method_2_code
def yJ1_newCapacity : MethodName := ⟨RJ1, "newCapacity", "(II)I"⟩
def dkwJ1_newCapacity_2 : List UInt8 := [18, 9, 100, 156, 0, 9, 29, 28, 96, 167, 0, 5, 18, 9, 172]
abbrev dktJ1_newCapacity_2 : List UInt8 := dkwJ1_newCapacity_2 ++ []
def dkwJ1_newCapacity_1 : List UInt8 := [187, 0, 33, 89, 18, 35, 183, 0, 37, 191, 18, 41, 172, 27, 28, 164, 0, 6, 21, 4, 172, 29, 28, 96]
abbrev dktJ1_newCapacity_1 : List UInt8 := dkwJ1_newCapacity_1 ++ dktJ1_newCapacity_2
def dkwJ1_newCapacity_0 : List UInt8 := [42, 180, 0, 3, 190, 62, 29, 27, 96, 89, 54, 4, 18, 9, 100, 158, 0, 21, 21, 4, 156, 0, 13]
abbrev dktJ1_newCapacity_0 : List UInt8 := dkwJ1_newCapacity_0 ++ dktJ1_newCapacity_1
theorem dksJ1_newCapacity_0 : cJ1_newCapacity.data.toList.drop 0 = dktJ1_newCapacity_0 := by decide +kernel
theorem dksJ1_newCapacity_1 : cJ1_newCapacity.data.toList.drop 23 = dktJ1_newCapacity_1 := dk_seg dksJ1_newCapacity_0 23 rfl rfl
theorem dksJ1_newCapacity_2 : cJ1_newCapacity.data.toList.drop 47 = dktJ1_newCapacity_2 := dk_seg dksJ1_newCapacity_1 24 rfl rfl
theorem dJ1_newCapacity_0 : decode cJ1_newCapacity 0 = .ok (.aload_n 0, 1) := dk_42 (dk_at dksJ1_newCapacity_0 0 rfl rfl)
theorem dJ1_newCapacity_1 : decode cJ1_newCapacity 1 = .ok (.getfield 3, 3) := dk_180 0 3 (dk_at dksJ1_newCapacity_0 1 rfl rfl)
theorem dJ1_newCapacity_4 : decode cJ1_newCapacity 4 = .ok (.arraylength, 1) := dk_190 (dk_at dksJ1_newCapacity_0 4 rfl rfl)
theorem dJ1_newCapacity_5 : decode cJ1_newCapacity 5 = .ok (.istore_n 3, 1) := dk_62 (dk_at dksJ1_newCapacity_0 5 rfl rfl)
theorem dJ1_newCapacity_6 : decode cJ1_newCapacity 6 = .ok (.iload_n 3, 1) := dk_29 (dk_at dksJ1_newCapacity_0 6 rfl rfl)
theorem dJ1_newCapacity_7 : decode cJ1_newCapacity 7 = .ok (.iload_n 1, 1) := dk_27 (dk_at dksJ1_newCapacity_0 7 rfl rfl)
theorem dJ1_newCapacity_8 : decode cJ1_newCapacity 8 = .ok (.iadd, 1) := dk_96 (dk_at dksJ1_newCapacity_0 8 rfl rfl)
theorem dJ1_newCapacity_9 : decode cJ1_newCapacity 9 = .ok (.dup, 1) := dk_89 (dk_at dksJ1_newCapacity_0 9 rfl rfl)
theorem dJ1_newCapacity_10 : decode cJ1_newCapacity 10 = .ok (.istore 4, 2) := dk_54 4 (dk_at dksJ1_newCapacity_0 10 rfl rfl)
theorem dJ1_newCapacity_12 : decode cJ1_newCapacity 12 = .ok (.ldc 9, 2) := dk_18 9 (dk_at dksJ1_newCapacity_0 12 rfl rfl)
theorem dJ1_newCapacity_14 : decode cJ1_newCapacity 14 = .ok (.isub, 1) := dk_100 (dk_at dksJ1_newCapacity_0 14 rfl rfl)
theorem dJ1_newCapacity_15 : decode cJ1_newCapacity 15 = .ok (.ifCond .le 21, 3) := dk_158 0 21 (dk_at dksJ1_newCapacity_0 15 rfl rfl)
theorem dJ1_newCapacity_18 : decode cJ1_newCapacity 18 = .ok (.iload 4, 2) := dk_21 4 (dk_at dksJ1_newCapacity_0 18 rfl rfl)
theorem dJ1_newCapacity_20 : decode cJ1_newCapacity 20 = .ok (.ifCond .ge 13, 3) := dk_156 0 13 (dk_at dksJ1_newCapacity_0 20 rfl rfl)
theorem dJ1_newCapacity_23 : decode cJ1_newCapacity 23 = .ok (.new 33, 3) := dk_187 0 33 (dk_at dksJ1_newCapacity_1 0 rfl rfl)
theorem dJ1_newCapacity_26 : decode cJ1_newCapacity 26 = .ok (.dup, 1) := dk_89 (dk_at dksJ1_newCapacity_1 3 rfl rfl)
theorem dJ1_newCapacity_27 : decode cJ1_newCapacity 27 = .ok (.ldc 35, 2) := dk_18 35 (dk_at dksJ1_newCapacity_1 4 rfl rfl)
theorem dJ1_newCapacity_29 : decode cJ1_newCapacity 29 = .ok (.invokespecial 37, 3) := dk_183 0 37 (dk_at dksJ1_newCapacity_1 6 rfl rfl)
theorem dJ1_newCapacity_32 : decode cJ1_newCapacity 32 = .ok (.athrow, 1) := dk_191 (dk_at dksJ1_newCapacity_1 9 rfl rfl)
theorem dJ1_newCapacity_33 : decode cJ1_newCapacity 33 = .ok (.ldc 41, 2) := dk_18 41 (dk_at dksJ1_newCapacity_1 10 rfl rfl)
theorem dJ1_newCapacity_35 : decode cJ1_newCapacity 35 = .ok (.ireturn, 1) := dk_172 (dk_at dksJ1_newCapacity_1 12 rfl rfl)
theorem dJ1_newCapacity_36 : decode cJ1_newCapacity 36 = .ok (.iload_n 1, 1) := dk_27 (dk_at dksJ1_newCapacity_1 13 rfl rfl)
theorem dJ1_newCapacity_37 : decode cJ1_newCapacity 37 = .ok (.iload_n 2, 1) := dk_28 (dk_at dksJ1_newCapacity_1 14 rfl rfl)
theorem dJ1_newCapacity_38 : decode cJ1_newCapacity 38 = .ok (.if_icmp .le 6, 3) := dk_164 0 6 (dk_at dksJ1_newCapacity_1 15 rfl rfl)
theorem dJ1_newCapacity_41 : decode cJ1_newCapacity 41 = .ok (.iload 4, 2) := dk_21 4 (dk_at dksJ1_newCapacity_1 18 rfl rfl)
theorem dJ1_newCapacity_43 : decode cJ1_newCapacity 43 = .ok (.ireturn, 1) := dk_172 (dk_at dksJ1_newCapacity_1 20 rfl rfl)
theorem dJ1_newCapacity_44 : decode cJ1_newCapacity 44 = .ok (.iload_n 3, 1) := dk_29 (dk_at dksJ1_newCapacity_1 21 rfl rfl)
theorem dJ1_newCapacity_45 : decode cJ1_newCapacity 45 = .ok (.iload_n 2, 1) := dk_28 (dk_at dksJ1_newCapacity_1 22 rfl rfl)
theorem dJ1_newCapacity_46 : decode cJ1_newCapacity 46 = .ok (.iadd, 1) := dk_96 (dk_at dksJ1_newCapacity_1 23 rfl rfl)
theorem dJ1_newCapacity_47 : decode cJ1_newCapacity 47 = .ok (.ldc 9, 2) := dk_18 9 (dk_at dksJ1_newCapacity_2 0 rfl rfl)
theorem dJ1_newCapacity_49 : decode cJ1_newCapacity 49 = .ok (.isub, 1) := dk_100 (dk_at dksJ1_newCapacity_2 2 rfl rfl)
theorem dJ1_newCapacity_50 : decode cJ1_newCapacity 50 = .ok (.ifCond .ge 9, 3) := dk_156 0 9 (dk_at dksJ1_newCapacity_2 3 rfl rfl)
theorem dJ1_newCapacity_53 : decode cJ1_newCapacity 53 = .ok (.iload_n 3, 1) := dk_29 (dk_at dksJ1_newCapacity_2 6 rfl rfl)
theorem dJ1_newCapacity_54 : decode cJ1_newCapacity 54 = .ok (.iload_n 2, 1) := dk_28 (dk_at dksJ1_newCapacity_2 7 rfl rfl)
theorem dJ1_newCapacity_55 : decode cJ1_newCapacity 55 = .ok (.iadd, 1) := dk_96 (dk_at dksJ1_newCapacity_2 8 rfl rfl)
theorem dJ1_newCapacity_56 : decode cJ1_newCapacity 56 = .ok (.goto 5, 3) := dk_167 0 5 (dk_at dksJ1_newCapacity_2 9 rfl rfl)
theorem dJ1_newCapacity_59 : decode cJ1_newCapacity 59 = .ok (.ldc 9, 2) := dk_18 9 (dk_at dksJ1_newCapacity_2 12 rfl rfl)
theorem dJ1_newCapacity_61 : decode cJ1_newCapacity 61 = .ok (.ireturn, 1) := dk_172 (dk_at dksJ1_newCapacity_2 14 rfl rfl)
abbrev cJ1_size : ByteArray := prog_42_method_37_code
def yJ1_size : MethodName := ⟨RJ1, "size", "()I"⟩
def dkwJ1_size_0 : List UInt8 := [42, 180, 0, 20, 42, 180, 0, 24, 42, 180, 0, 3, 190, 184, 0, 127, 172]
abbrev dktJ1_size_0 : List UInt8 := dkwJ1_size_0 ++ []
theorem dksJ1_size_0 : cJ1_size.data.toList.drop 0 = dktJ1_size_0 := by decide +kernel
theorem dJ1_size_0 : decode cJ1_size 0 = .ok (.aload_n 0, 1) := dk_42 (dk_at dksJ1_size_0 0 rfl rfl)
theorem dJ1_size_1 : decode cJ1_size 1 = .ok (.getfield 20, 3) := dk_180 0 20 (dk_at dksJ1_size_0 1 rfl rfl)
theorem dJ1_size_4 : decode cJ1_size 4 = .ok (.aload_n 0, 1) := dk_42 (dk_at dksJ1_size_0 4 rfl rfl)
theorem dJ1_size_5 : decode cJ1_size 5 = .ok (.getfield 24, 3) := dk_180 0 24 (dk_at dksJ1_size_0 5 rfl rfl)
theorem dJ1_size_8 : decode cJ1_size 8 = .ok (.aload_n 0, 1) := dk_42 (dk_at dksJ1_size_0 8 rfl rfl)
theorem dJ1_size_9 : decode cJ1_size 9 = .ok (.getfield 3, 3) := dk_180 0 3 (dk_at dksJ1_size_0 9 rfl rfl)
theorem dJ1_size_12 : decode cJ1_size 12 = .ok (.arraylength, 1) := dk_190 (dk_at dksJ1_size_0 12 rfl rfl)
theorem dJ1_size_13 : decode cJ1_size 13 = .ok (.invokestatic 127, 3) := dk_184 0 127 (dk_at dksJ1_size_0 13 rfl rfl)
theorem dJ1_size_16 : decode cJ1_size 16 = .ok (.ireturn, 1) := dk_172 (dk_at dksJ1_size_0 16 rfl rfl)
abbrev cJ1_sub : ByteArray := prog_42_method_9_code
def yJ1_sub : MethodName := ⟨RJ1, "sub", "(III)I"⟩
def dkwJ1_sub_0 : List UInt8 := [26, 27, 100, 89, 59, 156, 0, 7, 26, 28, 96, 59, 26, 172]
abbrev dktJ1_sub_0 : List UInt8 := dkwJ1_sub_0 ++ []
theorem dksJ1_sub_0 : cJ1_sub.data.toList.drop 0 = dktJ1_sub_0 := by decide +kernel
theorem dJ1_sub_0 : decode cJ1_sub 0 = .ok (.iload_n 0, 1) := dk_26 (dk_at dksJ1_sub_0 0 rfl rfl)
theorem dJ1_sub_1 : decode cJ1_sub 1 = .ok (.iload_n 1, 1) := dk_27 (dk_at dksJ1_sub_0 1 rfl rfl)
theorem dJ1_sub_2 : decode cJ1_sub 2 = .ok (.isub, 1) := dk_100 (dk_at dksJ1_sub_0 2 rfl rfl)
theorem dJ1_sub_3 : decode cJ1_sub 3 = .ok (.dup, 1) := dk_89 (dk_at dksJ1_sub_0 3 rfl rfl)
theorem dJ1_sub_4 : decode cJ1_sub 4 = .ok (.istore_n 0, 1) := dk_59 (dk_at dksJ1_sub_0 4 rfl rfl)
theorem dJ1_sub_5 : decode cJ1_sub 5 = .ok (.ifCond .ge 7, 3) := dk_156 0 7 (dk_at dksJ1_sub_0 5 rfl rfl)
theorem dJ1_sub_8 : decode cJ1_sub 8 = .ok (.iload_n 0, 1) := dk_26 (dk_at dksJ1_sub_0 8 rfl rfl)
theorem dJ1_sub_9 : decode cJ1_sub 9 = .ok (.iload_n 2, 1) := dk_28 (dk_at dksJ1_sub_0 9 rfl rfl)
theorem dJ1_sub_10 : decode cJ1_sub 10 = .ok (.iadd, 1) := dk_96 (dk_at dksJ1_sub_0 10 rfl rfl)
theorem dJ1_sub_11 : decode cJ1_sub 11 = .ok (.istore_n 0, 1) := dk_59 (dk_at dksJ1_sub_0 11 rfl rfl)
theorem dJ1_sub_12 : decode cJ1_sub 12 = .ok (.iload_n 0, 1) := dk_26 (dk_at dksJ1_sub_0 12 rfl rfl)
theorem dJ1_sub_13 : decode cJ1_sub 13 = .ok (.ireturn, 1) := dk_172 (dk_at dksJ1_sub_0 13 rfl rfl)
abbrev cJ1_removeFirst : ByteArray := prog_42_method_18_code
def yJ1_removeFirst : MethodName := ⟨RJ1, "removeFirst", "()Ljava/lang/Object;"⟩
def dkwJ1_removeFirst_0 : List UInt8 := [42, 182, 0, 93, 76, 43, 199, 0, 11, 187, 0, 97, 89, 183, 0, 99, 191, 43, 176]
abbrev dktJ1_removeFirst_0 : List UInt8 := dkwJ1_removeFirst_0 ++ []
theorem dksJ1_removeFirst_0 : cJ1_removeFirst.data.toList.drop 0 = dktJ1_removeFirst_0 := by decide +kernel
theorem dJ1_removeFirst_0 : decode cJ1_removeFirst 0 = .ok (.aload_n 0, 1) := dk_42 (dk_at dksJ1_removeFirst_0 0 rfl rfl)
theorem dJ1_removeFirst_1 : decode cJ1_removeFirst 1 = .ok (.invokevirtual 93, 3) := dk_182 0 93 (dk_at dksJ1_removeFirst_0 1 rfl rfl)
theorem dJ1_removeFirst_4 : decode cJ1_removeFirst 4 = .ok (.astore_n 1, 1) := dk_76 (dk_at dksJ1_removeFirst_0 4 rfl rfl)
theorem dJ1_removeFirst_5 : decode cJ1_removeFirst 5 = .ok (.aload_n 1, 1) := dk_43 (dk_at dksJ1_removeFirst_0 5 rfl rfl)
theorem dJ1_removeFirst_6 : decode cJ1_removeFirst 6 = .ok (.ifnonnull 11, 3) := dk_199 0 11 (dk_at dksJ1_removeFirst_0 6 rfl rfl)
theorem dJ1_removeFirst_9 : decode cJ1_removeFirst 9 = .ok (.new 97, 3) := dk_187 0 97 (dk_at dksJ1_removeFirst_0 9 rfl rfl)
theorem dJ1_removeFirst_12 : decode cJ1_removeFirst 12 = .ok (.dup, 1) := dk_89 (dk_at dksJ1_removeFirst_0 12 rfl rfl)
theorem dJ1_removeFirst_13 : decode cJ1_removeFirst 13 = .ok (.invokespecial 99, 3) := dk_183 0 99 (dk_at dksJ1_removeFirst_0 13 rfl rfl)
theorem dJ1_removeFirst_16 : decode cJ1_removeFirst 16 = .ok (.athrow, 1) := dk_191 (dk_at dksJ1_removeFirst_0 16 rfl rfl)
theorem dJ1_removeFirst_17 : decode cJ1_removeFirst 17 = .ok (.aload_n 1, 1) := dk_43 (dk_at dksJ1_removeFirst_0 17 rfl rfl)
theorem dJ1_removeFirst_18 : decode cJ1_removeFirst 18 = .ok (.areturn, 1) := dk_176 (dk_at dksJ1_removeFirst_0 18 rfl rfl)
abbrev cJ1_pollFirst : ByteArray := prog_42_method_20_code
def yJ1_pollFirst : MethodName := ⟨RJ1, "pollFirst", "()Ljava/lang/Object;"⟩
def dkwJ1_pollFirst_1 : List UInt8 := [42, 28, 43, 190, 184, 0, 74, 181, 0, 24, 45, 176]
abbrev dktJ1_pollFirst_1 : List UInt8 := dkwJ1_pollFirst_1 ++ []
def dkwJ1_pollFirst_0 : List UInt8 := [42, 180, 0, 3, 89, 76, 42, 180, 0, 24, 89, 61, 184, 0, 103, 78, 45, 198, 0, 17, 43, 28, 1, 83]
abbrev dktJ1_pollFirst_0 : List UInt8 := dkwJ1_pollFirst_0 ++ dktJ1_pollFirst_1
theorem dksJ1_pollFirst_0 : cJ1_pollFirst.data.toList.drop 0 = dktJ1_pollFirst_0 := by decide +kernel
theorem dksJ1_pollFirst_1 : cJ1_pollFirst.data.toList.drop 24 = dktJ1_pollFirst_1 := dk_seg dksJ1_pollFirst_0 24 rfl rfl
theorem dJ1_pollFirst_0 : decode cJ1_pollFirst 0 = .ok (.aload_n 0, 1) := dk_42 (dk_at dksJ1_pollFirst_0 0 rfl rfl)
theorem dJ1_pollFirst_1 : decode cJ1_pollFirst 1 = .ok (.getfield 3, 3) := dk_180 0 3 (dk_at dksJ1_pollFirst_0 1 rfl rfl)
theorem dJ1_pollFirst_4 : decode cJ1_pollFirst 4 = .ok (.dup, 1) := dk_89 (dk_at dksJ1_pollFirst_0 4 rfl rfl)
theorem dJ1_pollFirst_5 : decode cJ1_pollFirst 5 = .ok (.astore_n 1, 1) := dk_76 (dk_at dksJ1_pollFirst_0 5 rfl rfl)
theorem dJ1_pollFirst_6 : decode cJ1_pollFirst 6 = .ok (.aload_n 0, 1) := dk_42 (dk_at dksJ1_pollFirst_0 6 rfl rfl)
theorem dJ1_pollFirst_7 : decode cJ1_pollFirst 7 = .ok (.getfield 24, 3) := dk_180 0 24 (dk_at dksJ1_pollFirst_0 7 rfl rfl)
theorem dJ1_pollFirst_10 : decode cJ1_pollFirst 10 = .ok (.dup, 1) := dk_89 (dk_at dksJ1_pollFirst_0 10 rfl rfl)
theorem dJ1_pollFirst_11 : decode cJ1_pollFirst 11 = .ok (.istore_n 2, 1) := dk_61 (dk_at dksJ1_pollFirst_0 11 rfl rfl)
theorem dJ1_pollFirst_12 : decode cJ1_pollFirst 12 = .ok (.invokestatic 103, 3) := dk_184 0 103 (dk_at dksJ1_pollFirst_0 12 rfl rfl)
theorem dJ1_pollFirst_15 : decode cJ1_pollFirst 15 = .ok (.astore_n 3, 1) := dk_78 (dk_at dksJ1_pollFirst_0 15 rfl rfl)
theorem dJ1_pollFirst_16 : decode cJ1_pollFirst 16 = .ok (.aload_n 3, 1) := dk_45 (dk_at dksJ1_pollFirst_0 16 rfl rfl)
theorem dJ1_pollFirst_17 : decode cJ1_pollFirst 17 = .ok (.ifnull 17, 3) := dk_198 0 17 (dk_at dksJ1_pollFirst_0 17 rfl rfl)
theorem dJ1_pollFirst_20 : decode cJ1_pollFirst 20 = .ok (.aload_n 1, 1) := dk_43 (dk_at dksJ1_pollFirst_0 20 rfl rfl)
theorem dJ1_pollFirst_21 : decode cJ1_pollFirst 21 = .ok (.iload_n 2, 1) := dk_28 (dk_at dksJ1_pollFirst_0 21 rfl rfl)
theorem dJ1_pollFirst_22 : decode cJ1_pollFirst 22 = .ok (.aconst_null, 1) := dk_1 (dk_at dksJ1_pollFirst_0 22 rfl rfl)
theorem dJ1_pollFirst_23 : decode cJ1_pollFirst 23 = .ok (.aastore, 1) := dk_83 (dk_at dksJ1_pollFirst_0 23 rfl rfl)
theorem dJ1_pollFirst_24 : decode cJ1_pollFirst 24 = .ok (.aload_n 0, 1) := dk_42 (dk_at dksJ1_pollFirst_1 0 rfl rfl)
theorem dJ1_pollFirst_25 : decode cJ1_pollFirst 25 = .ok (.iload_n 2, 1) := dk_28 (dk_at dksJ1_pollFirst_1 1 rfl rfl)
theorem dJ1_pollFirst_26 : decode cJ1_pollFirst 26 = .ok (.aload_n 1, 1) := dk_43 (dk_at dksJ1_pollFirst_1 2 rfl rfl)
theorem dJ1_pollFirst_27 : decode cJ1_pollFirst 27 = .ok (.arraylength, 1) := dk_190 (dk_at dksJ1_pollFirst_1 3 rfl rfl)
theorem dJ1_pollFirst_28 : decode cJ1_pollFirst 28 = .ok (.invokestatic 74, 3) := dk_184 0 74 (dk_at dksJ1_pollFirst_1 4 rfl rfl)
theorem dJ1_pollFirst_31 : decode cJ1_pollFirst 31 = .ok (.putfield 24, 3) := dk_181 0 24 (dk_at dksJ1_pollFirst_1 7 rfl rfl)
theorem dJ1_pollFirst_34 : decode cJ1_pollFirst 34 = .ok (.aload_n 3, 1) := dk_45 (dk_at dksJ1_pollFirst_1 10 rfl rfl)
theorem dJ1_pollFirst_35 : decode cJ1_pollFirst 35 = .ok (.areturn, 1) := dk_176 (dk_at dksJ1_pollFirst_1 11 rfl rfl)
abbrev cJ1_elementAt : ByteArray := prog_42_method_10_code
def yJ1_elementAt : MethodName := ⟨RJ1, "elementAt", "([Ljava/lang/Object;I)Ljava/lang/Object;"⟩
def dkwJ1_elementAt_0 : List UInt8 := [42, 27, 50, 176]
abbrev dktJ1_elementAt_0 : List UInt8 := dkwJ1_elementAt_0 ++ []
theorem dksJ1_elementAt_0 : cJ1_elementAt.data.toList.drop 0 = dktJ1_elementAt_0 := by decide +kernel
theorem dJ1_elementAt_0 : decode cJ1_elementAt 0 = .ok (.aload_n 0, 1) := dk_42 (dk_at dksJ1_elementAt_0 0 rfl rfl)
theorem dJ1_elementAt_1 : decode cJ1_elementAt 1 = .ok (.iload_n 1, 1) := dk_27 (dk_at dksJ1_elementAt_0 1 rfl rfl)
theorem dJ1_elementAt_2 : decode cJ1_elementAt 2 = .ok (.aaload, 1) := dk_50 (dk_at dksJ1_elementAt_0 2 rfl rfl)
theorem dJ1_elementAt_3 : decode cJ1_elementAt 3 = .ok (.areturn, 1) := dk_176 (dk_at dksJ1_elementAt_0 3 rfl rfl)
abbrev cJ1_isEmpty : ByteArray := prog_42_method_38_code
def yJ1_isEmpty : MethodName := ⟨RJ1, "isEmpty", "()Z"⟩
def dkwJ1_isEmpty_0 : List UInt8 := [42, 180, 0, 24, 42, 180, 0, 20, 160, 0, 7, 4, 167, 0, 4, 3, 172]
abbrev dktJ1_isEmpty_0 : List UInt8 := dkwJ1_isEmpty_0 ++ []
theorem dksJ1_isEmpty_0 : cJ1_isEmpty.data.toList.drop 0 = dktJ1_isEmpty_0 := by decide +kernel
theorem dJ1_isEmpty_0 : decode cJ1_isEmpty 0 = .ok (.aload_n 0, 1) := dk_42 (dk_at dksJ1_isEmpty_0 0 rfl rfl)
theorem dJ1_isEmpty_1 : decode cJ1_isEmpty 1 = .ok (.getfield 24, 3) := dk_180 0 24 (dk_at dksJ1_isEmpty_0 1 rfl rfl)
theorem dJ1_isEmpty_4 : decode cJ1_isEmpty 4 = .ok (.aload_n 0, 1) := dk_42 (dk_at dksJ1_isEmpty_0 4 rfl rfl)
theorem dJ1_isEmpty_5 : decode cJ1_isEmpty 5 = .ok (.getfield 20, 3) := dk_180 0 20 (dk_at dksJ1_isEmpty_0 5 rfl rfl)
theorem dJ1_isEmpty_8 : decode cJ1_isEmpty 8 = .ok (.if_icmp .ne 7, 3) := dk_160 0 7 (dk_at dksJ1_isEmpty_0 8 rfl rfl)
theorem dJ1_isEmpty_11 : decode cJ1_isEmpty 11 = .ok (.iconst 1, 1) := dk_4 (dk_at dksJ1_isEmpty_0 11 rfl rfl)
theorem dJ1_isEmpty_12 : decode cJ1_isEmpty 12 = .ok (.goto 4, 3) := dk_167 0 4 (dk_at dksJ1_isEmpty_0 12 rfl rfl)
theorem dJ1_isEmpty_15 : decode cJ1_isEmpty 15 = .ok (.iconst 0, 1) := dk_3 (dk_at dksJ1_isEmpty_0 15 rfl rfl)
theorem dJ1_isEmpty_16 : decode cJ1_isEmpty 16 = .ok (.ireturn, 1) := dk_172 (dk_at dksJ1_isEmpty_0 16 rfl rfl)
abbrev cJ1_removeLast : ByteArray := prog_42_method_19_code
def yJ1_removeLast : MethodName := ⟨RJ1, "removeLast", "()Ljava/lang/Object;"⟩
def dkwJ1_removeLast_0 : List UInt8 := [42, 182, 0, 100, 76, 43, 199, 0, 11, 187, 0, 97, 89, 183, 0, 99, 191, 43, 176]
abbrev dktJ1_removeLast_0 : List UInt8 := dkwJ1_removeLast_0 ++ []
theorem dksJ1_removeLast_0 : cJ1_removeLast.data.toList.drop 0 = dktJ1_removeLast_0 := by decide +kernel
theorem dJ1_removeLast_0 : decode cJ1_removeLast 0 = .ok (.aload_n 0, 1) := dk_42 (dk_at dksJ1_removeLast_0 0 rfl rfl)
theorem dJ1_removeLast_1 : decode cJ1_removeLast 1 = .ok (.invokevirtual 100, 3) := dk_182 0 100 (dk_at dksJ1_removeLast_0 1 rfl rfl)
theorem dJ1_removeLast_4 : decode cJ1_removeLast 4 = .ok (.astore_n 1, 1) := dk_76 (dk_at dksJ1_removeLast_0 4 rfl rfl)
theorem dJ1_removeLast_5 : decode cJ1_removeLast 5 = .ok (.aload_n 1, 1) := dk_43 (dk_at dksJ1_removeLast_0 5 rfl rfl)
theorem dJ1_removeLast_6 : decode cJ1_removeLast 6 = .ok (.ifnonnull 11, 3) := dk_199 0 11 (dk_at dksJ1_removeLast_0 6 rfl rfl)
theorem dJ1_removeLast_9 : decode cJ1_removeLast 9 = .ok (.new 97, 3) := dk_187 0 97 (dk_at dksJ1_removeLast_0 9 rfl rfl)
theorem dJ1_removeLast_12 : decode cJ1_removeLast 12 = .ok (.dup, 1) := dk_89 (dk_at dksJ1_removeLast_0 12 rfl rfl)
theorem dJ1_removeLast_13 : decode cJ1_removeLast 13 = .ok (.invokespecial 99, 3) := dk_183 0 99 (dk_at dksJ1_removeLast_0 13 rfl rfl)
theorem dJ1_removeLast_16 : decode cJ1_removeLast 16 = .ok (.athrow, 1) := dk_191 (dk_at dksJ1_removeLast_0 16 rfl rfl)
theorem dJ1_removeLast_17 : decode cJ1_removeLast 17 = .ok (.aload_n 1, 1) := dk_43 (dk_at dksJ1_removeLast_0 17 rfl rfl)
theorem dJ1_removeLast_18 : decode cJ1_removeLast 18 = .ok (.areturn, 1) := dk_176 (dk_at dksJ1_removeLast_0 18 rfl rfl)
abbrev cJ1_pollLast : ByteArray := prog_42_method_21_code
def yJ1_pollLast : MethodName := ⟨RJ1, "pollLast", "()Ljava/lang/Object;"⟩
def dkwJ1_pollLast_1 : List UInt8 := [198, 0, 12, 43, 42, 28, 90, 181, 0, 20, 1, 83, 45, 176]
abbrev dktJ1_pollLast_1 : List UInt8 := dkwJ1_pollLast_1 ++ []
def dkwJ1_pollLast_0 : List UInt8 := [42, 180, 0, 3, 89, 76, 42, 180, 0, 20, 43, 190, 184, 0, 68, 89, 61, 184, 0, 103, 78, 45]
abbrev dktJ1_pollLast_0 : List UInt8 := dkwJ1_pollLast_0 ++ dktJ1_pollLast_1
theorem dksJ1_pollLast_0 : cJ1_pollLast.data.toList.drop 0 = dktJ1_pollLast_0 := by decide +kernel
theorem dksJ1_pollLast_1 : cJ1_pollLast.data.toList.drop 22 = dktJ1_pollLast_1 := dk_seg dksJ1_pollLast_0 22 rfl rfl
theorem dJ1_pollLast_0 : decode cJ1_pollLast 0 = .ok (.aload_n 0, 1) := dk_42 (dk_at dksJ1_pollLast_0 0 rfl rfl)
theorem dJ1_pollLast_1 : decode cJ1_pollLast 1 = .ok (.getfield 3, 3) := dk_180 0 3 (dk_at dksJ1_pollLast_0 1 rfl rfl)
theorem dJ1_pollLast_4 : decode cJ1_pollLast 4 = .ok (.dup, 1) := dk_89 (dk_at dksJ1_pollLast_0 4 rfl rfl)
theorem dJ1_pollLast_5 : decode cJ1_pollLast 5 = .ok (.astore_n 1, 1) := dk_76 (dk_at dksJ1_pollLast_0 5 rfl rfl)
theorem dJ1_pollLast_6 : decode cJ1_pollLast 6 = .ok (.aload_n 0, 1) := dk_42 (dk_at dksJ1_pollLast_0 6 rfl rfl)
theorem dJ1_pollLast_7 : decode cJ1_pollLast 7 = .ok (.getfield 20, 3) := dk_180 0 20 (dk_at dksJ1_pollLast_0 7 rfl rfl)
theorem dJ1_pollLast_10 : decode cJ1_pollLast 10 = .ok (.aload_n 1, 1) := dk_43 (dk_at dksJ1_pollLast_0 10 rfl rfl)
theorem dJ1_pollLast_11 : decode cJ1_pollLast 11 = .ok (.arraylength, 1) := dk_190 (dk_at dksJ1_pollLast_0 11 rfl rfl)
theorem dJ1_pollLast_12 : decode cJ1_pollLast 12 = .ok (.invokestatic 68, 3) := dk_184 0 68 (dk_at dksJ1_pollLast_0 12 rfl rfl)
theorem dJ1_pollLast_15 : decode cJ1_pollLast 15 = .ok (.dup, 1) := dk_89 (dk_at dksJ1_pollLast_0 15 rfl rfl)
theorem dJ1_pollLast_16 : decode cJ1_pollLast 16 = .ok (.istore_n 2, 1) := dk_61 (dk_at dksJ1_pollLast_0 16 rfl rfl)
theorem dJ1_pollLast_17 : decode cJ1_pollLast 17 = .ok (.invokestatic 103, 3) := dk_184 0 103 (dk_at dksJ1_pollLast_0 17 rfl rfl)
theorem dJ1_pollLast_20 : decode cJ1_pollLast 20 = .ok (.astore_n 3, 1) := dk_78 (dk_at dksJ1_pollLast_0 20 rfl rfl)
theorem dJ1_pollLast_21 : decode cJ1_pollLast 21 = .ok (.aload_n 3, 1) := dk_45 (dk_at dksJ1_pollLast_0 21 rfl rfl)
theorem dJ1_pollLast_22 : decode cJ1_pollLast 22 = .ok (.ifnull 12, 3) := dk_198 0 12 (dk_at dksJ1_pollLast_1 0 rfl rfl)
theorem dJ1_pollLast_25 : decode cJ1_pollLast 25 = .ok (.aload_n 1, 1) := dk_43 (dk_at dksJ1_pollLast_1 3 rfl rfl)
theorem dJ1_pollLast_26 : decode cJ1_pollLast 26 = .ok (.aload_n 0, 1) := dk_42 (dk_at dksJ1_pollLast_1 4 rfl rfl)
theorem dJ1_pollLast_27 : decode cJ1_pollLast 27 = .ok (.iload_n 2, 1) := dk_28 (dk_at dksJ1_pollLast_1 5 rfl rfl)
theorem dJ1_pollLast_28 : decode cJ1_pollLast 28 = .ok (.dup_x1, 1) := dk_90 (dk_at dksJ1_pollLast_1 6 rfl rfl)
theorem dJ1_pollLast_29 : decode cJ1_pollLast 29 = .ok (.putfield 20, 3) := dk_181 0 20 (dk_at dksJ1_pollLast_1 7 rfl rfl)
theorem dJ1_pollLast_32 : decode cJ1_pollLast 32 = .ok (.aconst_null, 1) := dk_1 (dk_at dksJ1_pollLast_1 10 rfl rfl)
theorem dJ1_pollLast_33 : decode cJ1_pollLast 33 = .ok (.aastore, 1) := dk_83 (dk_at dksJ1_pollLast_1 11 rfl rfl)
theorem dJ1_pollLast_34 : decode cJ1_pollLast 34 = .ok (.aload_n 3, 1) := dk_45 (dk_at dksJ1_pollLast_1 12 rfl rfl)
theorem dJ1_pollLast_35 : decode cJ1_pollLast 35 = .ok (.areturn, 1) := dk_176 (dk_at dksJ1_pollLast_1 13 rfl rfl)
abbrev cJ1_dec : ByteArray := prog_42_method_7_code
def yJ1_dec : MethodName := ⟨RJ1, "dec", "(II)I"⟩
def dkwJ1_dec_0 : List UInt8 := [132, 0, 255, 26, 156, 0, 7, 27, 4, 100, 59, 26, 172]
abbrev dktJ1_dec_0 : List UInt8 := dkwJ1_dec_0 ++ []
theorem dksJ1_dec_0 : cJ1_dec.data.toList.drop 0 = dktJ1_dec_0 := by decide +kernel
theorem dJ1_dec_0 : decode cJ1_dec 0 = .ok (.iinc 0 (-1), 3) := dk_132 0 255 (dk_at dksJ1_dec_0 0 rfl rfl)
theorem dJ1_dec_3 : decode cJ1_dec 3 = .ok (.iload_n 0, 1) := dk_26 (dk_at dksJ1_dec_0 3 rfl rfl)
theorem dJ1_dec_4 : decode cJ1_dec 4 = .ok (.ifCond .ge 7, 3) := dk_156 0 7 (dk_at dksJ1_dec_0 4 rfl rfl)
theorem dJ1_dec_7 : decode cJ1_dec 7 = .ok (.iload_n 1, 1) := dk_27 (dk_at dksJ1_dec_0 7 rfl rfl)
theorem dJ1_dec_8 : decode cJ1_dec 8 = .ok (.iconst 1, 1) := dk_4 (dk_at dksJ1_dec_0 8 rfl rfl)
theorem dJ1_dec_9 : decode cJ1_dec 9 = .ok (.isub, 1) := dk_100 (dk_at dksJ1_dec_0 9 rfl rfl)
theorem dJ1_dec_10 : decode cJ1_dec 10 = .ok (.istore_n 0, 1) := dk_59 (dk_at dksJ1_dec_0 10 rfl rfl)
theorem dJ1_dec_11 : decode cJ1_dec 11 = .ok (.iload_n 0, 1) := dk_26 (dk_at dksJ1_dec_0 11 rfl rfl)
theorem dJ1_dec_12 : decode cJ1_dec 12 = .ok (.ireturn, 1) := dk_172 (dk_at dksJ1_dec_0 12 rfl rfl)
abbrev cJ1_clear : ByteArray := prog_42_method_53_code
def yJ1_clear : MethodName := ⟨RJ1, "clear", "()V"⟩
def dkwJ1_clear_1 : List UInt8 := [181, 0, 24, 177]
abbrev dktJ1_clear_1 : List UInt8 := dkwJ1_clear_1 ++ []
def dkwJ1_clear_0 : List UInt8 := [42, 180, 0, 3, 42, 180, 0, 24, 42, 180, 0, 20, 184, 0, 181, 42, 42, 3, 90, 181, 0, 20]
abbrev dktJ1_clear_0 : List UInt8 := dkwJ1_clear_0 ++ dktJ1_clear_1
theorem dksJ1_clear_0 : cJ1_clear.data.toList.drop 0 = dktJ1_clear_0 := by decide +kernel
theorem dksJ1_clear_1 : cJ1_clear.data.toList.drop 22 = dktJ1_clear_1 := dk_seg dksJ1_clear_0 22 rfl rfl
theorem dJ1_clear_0 : decode cJ1_clear 0 = .ok (.aload_n 0, 1) := dk_42 (dk_at dksJ1_clear_0 0 rfl rfl)
theorem dJ1_clear_1 : decode cJ1_clear 1 = .ok (.getfield 3, 3) := dk_180 0 3 (dk_at dksJ1_clear_0 1 rfl rfl)
theorem dJ1_clear_4 : decode cJ1_clear 4 = .ok (.aload_n 0, 1) := dk_42 (dk_at dksJ1_clear_0 4 rfl rfl)
theorem dJ1_clear_5 : decode cJ1_clear 5 = .ok (.getfield 24, 3) := dk_180 0 24 (dk_at dksJ1_clear_0 5 rfl rfl)
theorem dJ1_clear_8 : decode cJ1_clear 8 = .ok (.aload_n 0, 1) := dk_42 (dk_at dksJ1_clear_0 8 rfl rfl)
theorem dJ1_clear_9 : decode cJ1_clear 9 = .ok (.getfield 20, 3) := dk_180 0 20 (dk_at dksJ1_clear_0 9 rfl rfl)
theorem dJ1_clear_12 : decode cJ1_clear 12 = .ok (.invokestatic 181, 3) := dk_184 0 181 (dk_at dksJ1_clear_0 12 rfl rfl)
theorem dJ1_clear_15 : decode cJ1_clear 15 = .ok (.aload_n 0, 1) := dk_42 (dk_at dksJ1_clear_0 15 rfl rfl)
theorem dJ1_clear_16 : decode cJ1_clear 16 = .ok (.aload_n 0, 1) := dk_42 (dk_at dksJ1_clear_0 16 rfl rfl)
theorem dJ1_clear_17 : decode cJ1_clear 17 = .ok (.iconst 0, 1) := dk_3 (dk_at dksJ1_clear_0 17 rfl rfl)
theorem dJ1_clear_18 : decode cJ1_clear 18 = .ok (.dup_x1, 1) := dk_90 (dk_at dksJ1_clear_0 18 rfl rfl)
theorem dJ1_clear_19 : decode cJ1_clear 19 = .ok (.putfield 20, 3) := dk_181 0 20 (dk_at dksJ1_clear_0 19 rfl rfl)
theorem dJ1_clear_22 : decode cJ1_clear 22 = .ok (.putfield 24, 3) := dk_181 0 24 (dk_at dksJ1_clear_1 0 rfl rfl)
theorem dJ1_clear_25 : decode cJ1_clear 25 = .ok (.return_, 1) := dk_177 (dk_at dksJ1_clear_1 3 rfl rfl)
abbrev cJ1_circularClear : ByteArray := prog_42_method_54_code
def yJ1_circularClear : MethodName := ⟨RJ1, "circularClear", "([Ljava/lang/Object;II)V"⟩
def dkwJ1_circularClear_1 : List UInt8 := [167, 255, 244, 29, 28, 160, 0, 6, 167, 0, 10, 3, 60, 28, 62, 167, 255, 229, 177]
abbrev dktJ1_circularClear_1 : List UInt8 := dkwJ1_circularClear_1 ++ []
def dkwJ1_circularClear_0 : List UInt8 := [27, 28, 163, 0, 7, 28, 167, 0, 5, 42, 190, 62, 27, 29, 162, 0, 13, 42, 27, 1, 83, 132, 1, 1]
abbrev dktJ1_circularClear_0 : List UInt8 := dkwJ1_circularClear_0 ++ dktJ1_circularClear_1
theorem dksJ1_circularClear_0 : cJ1_circularClear.data.toList.drop 0 = dktJ1_circularClear_0 := by decide +kernel
theorem dksJ1_circularClear_1 : cJ1_circularClear.data.toList.drop 24 = dktJ1_circularClear_1 := dk_seg dksJ1_circularClear_0 24 rfl rfl
theorem dJ1_circularClear_0 : decode cJ1_circularClear 0 = .ok (.iload_n 1, 1) := dk_27 (dk_at dksJ1_circularClear_0 0 rfl rfl)
theorem dJ1_circularClear_1 : decode cJ1_circularClear 1 = .ok (.iload_n 2, 1) := dk_28 (dk_at dksJ1_circularClear_0 1 rfl rfl)
theorem dJ1_circularClear_2 : decode cJ1_circularClear 2 = .ok (.if_icmp .gt 7, 3) := dk_163 0 7 (dk_at dksJ1_circularClear_0 2 rfl rfl)
theorem dJ1_circularClear_5 : decode cJ1_circularClear 5 = .ok (.iload_n 2, 1) := dk_28 (dk_at dksJ1_circularClear_0 5 rfl rfl)
theorem dJ1_circularClear_6 : decode cJ1_circularClear 6 = .ok (.goto 5, 3) := dk_167 0 5 (dk_at dksJ1_circularClear_0 6 rfl rfl)
theorem dJ1_circularClear_9 : decode cJ1_circularClear 9 = .ok (.aload_n 0, 1) := dk_42 (dk_at dksJ1_circularClear_0 9 rfl rfl)
theorem dJ1_circularClear_10 : decode cJ1_circularClear 10 = .ok (.arraylength, 1) := dk_190 (dk_at dksJ1_circularClear_0 10 rfl rfl)
theorem dJ1_circularClear_11 : decode cJ1_circularClear 11 = .ok (.istore_n 3, 1) := dk_62 (dk_at dksJ1_circularClear_0 11 rfl rfl)
theorem dJ1_circularClear_12 : decode cJ1_circularClear 12 = .ok (.iload_n 1, 1) := dk_27 (dk_at dksJ1_circularClear_0 12 rfl rfl)
theorem dJ1_circularClear_13 : decode cJ1_circularClear 13 = .ok (.iload_n 3, 1) := dk_29 (dk_at dksJ1_circularClear_0 13 rfl rfl)
theorem dJ1_circularClear_14 : decode cJ1_circularClear 14 = .ok (.if_icmp .ge 13, 3) := dk_162 0 13 (dk_at dksJ1_circularClear_0 14 rfl rfl)
theorem dJ1_circularClear_17 : decode cJ1_circularClear 17 = .ok (.aload_n 0, 1) := dk_42 (dk_at dksJ1_circularClear_0 17 rfl rfl)
theorem dJ1_circularClear_18 : decode cJ1_circularClear 18 = .ok (.iload_n 1, 1) := dk_27 (dk_at dksJ1_circularClear_0 18 rfl rfl)
theorem dJ1_circularClear_19 : decode cJ1_circularClear 19 = .ok (.aconst_null, 1) := dk_1 (dk_at dksJ1_circularClear_0 19 rfl rfl)
theorem dJ1_circularClear_20 : decode cJ1_circularClear 20 = .ok (.aastore, 1) := dk_83 (dk_at dksJ1_circularClear_0 20 rfl rfl)
theorem dJ1_circularClear_21 : decode cJ1_circularClear 21 = .ok (.iinc 1 1, 3) := dk_132 1 1 (dk_at dksJ1_circularClear_0 21 rfl rfl)
theorem dJ1_circularClear_24 : decode cJ1_circularClear 24 = .ok (.goto (-12), 3) := dk_167 255 244 (dk_at dksJ1_circularClear_1 0 rfl rfl)
theorem dJ1_circularClear_27 : decode cJ1_circularClear 27 = .ok (.iload_n 3, 1) := dk_29 (dk_at dksJ1_circularClear_1 3 rfl rfl)
theorem dJ1_circularClear_28 : decode cJ1_circularClear 28 = .ok (.iload_n 2, 1) := dk_28 (dk_at dksJ1_circularClear_1 4 rfl rfl)
theorem dJ1_circularClear_29 : decode cJ1_circularClear 29 = .ok (.if_icmp .ne 6, 3) := dk_160 0 6 (dk_at dksJ1_circularClear_1 5 rfl rfl)
theorem dJ1_circularClear_32 : decode cJ1_circularClear 32 = .ok (.goto 10, 3) := dk_167 0 10 (dk_at dksJ1_circularClear_1 8 rfl rfl)
theorem dJ1_circularClear_35 : decode cJ1_circularClear 35 = .ok (.iconst 0, 1) := dk_3 (dk_at dksJ1_circularClear_1 11 rfl rfl)
theorem dJ1_circularClear_36 : decode cJ1_circularClear 36 = .ok (.istore_n 1, 1) := dk_60 (dk_at dksJ1_circularClear_1 12 rfl rfl)
theorem dJ1_circularClear_37 : decode cJ1_circularClear 37 = .ok (.iload_n 2, 1) := dk_28 (dk_at dksJ1_circularClear_1 13 rfl rfl)
theorem dJ1_circularClear_38 : decode cJ1_circularClear 38 = .ok (.istore_n 3, 1) := dk_62 (dk_at dksJ1_circularClear_1 14 rfl rfl)
theorem dJ1_circularClear_39 : decode cJ1_circularClear 39 = .ok (.goto (-27), 3) := dk_167 255 229 (dk_at dksJ1_circularClear_1 15 rfl rfl)
theorem dJ1_circularClear_42 : decode cJ1_circularClear 42 = .ok (.return_, 1) := dk_177 (dk_at dksJ1_circularClear_1 18 rfl rfl)
theorem q118 : (Jvm.Cond.initialized "java/util/ArrayDeque") ∈ lw_all := lw_g (lw_at lw_m1 3 rfl) rfl
theorem q165 : (Jvm.Cond.instantiable "java/util/ArrayDeque" (3 : Nat)) ∈ lw_all := lw_g (lw_at lw_m1 50 rfl) rfl
theorem q167 : (Jvm.Cond.instanceMethod ({ cls := "java/util/ArrayDeque", name := "<init>", desc := "()V" } : Jvm.MethodName)) ∈ lw_all := lw_g (lw_at lw_m1 52 rfl) rfl
theorem q168 : (Jvm.Cond.code ({ cls := "java/util/ArrayDeque", name := "<init>", desc := "()V" } : Jvm.MethodName) prog_42_method_3_code (1 : Nat) (Option.none : Option Jvm.ClassFile.FieldType)) ∈ lw_all := lw_g (lw_at lw_m1 53 rfl) rfl
theorem q169 : (Jvm.Cond.methodLink "java/util/ArrayDeque" (42 : Nat) ({ cls := "java/util/AbstractCollection", name := "<init>", desc := "()V" } : Jvm.MethodName)) ∈ lw_all := lw_g (lw_at lw_m1 54 rfl) rfl
theorem q173 : (Jvm.Cond.classLink "java/util/ArrayDeque" (47 : Nat) "java/lang/Object") ∈ lw_all := lw_g (lw_at lw_m1 58 rfl) rfl
theorem q175 : (Jvm.Cond.fieldLink "java/util/ArrayDeque" (3 : Nat) "java/util/ArrayDeque" "elements" "[Ljava/lang/Object;") ∈ lw_all := lw_g (lw_at lw_m1 60 rfl) rfl
theorem q176 : (Jvm.Cond.fieldLink "java/util/ArrayDeque" (24 : Nat) "java/util/ArrayDeque" "head" "I") ∈ lw_all := lw_g (lw_at lw_m1 61 rfl) rfl
theorem q177 : (Jvm.Cond.fieldLink "java/util/ArrayDeque" (20 : Nat) "java/util/ArrayDeque" "tail" "I") ∈ lw_all := lw_g (lw_at lw_m1 62 rfl) rfl
theorem q178 : (Jvm.Cond.lays "java/util/ArrayDeque" "java/util/ArrayDeque" "elements" "[Ljava/lang/Object;") ∈ lw_all := lw_g (lw_at lw_m1 63 rfl) rfl
theorem q179 : (Jvm.Cond.soleField "java/util/ArrayDeque" "elements") ∈ lw_all := lw_g (lw_at lw_m1 64 rfl) rfl
theorem q180 : (Jvm.Cond.lays "java/util/ArrayDeque" "java/util/ArrayDeque" "head" "I") ∈ lw_all := lw_g (lw_at lw_m1 65 rfl) rfl
theorem q181 : (Jvm.Cond.soleField "java/util/ArrayDeque" "head") ∈ lw_all := lw_g (lw_at lw_m1 66 rfl) rfl
theorem q182 : (Jvm.Cond.lays "java/util/ArrayDeque" "java/util/ArrayDeque" "tail" "I") ∈ lw_all := lw_g (lw_at lw_m1 67 rfl) rfl
theorem q183 : (Jvm.Cond.soleField "java/util/ArrayDeque" "tail") ∈ lw_all := lw_g (lw_at lw_m1 68 rfl) rfl
theorem q184 : (Jvm.Cond.superclass "java/util/ArrayDeque" "java/util/AbstractCollection") ∈ lw_all := lw_g (lw_at lw_m1 69 rfl) rfl
theorem q892 : (Jvm.Cond.selects "java/util/ArrayDeque" ({ cls := "java/lang/Object", name := "getClass", desc := "()Ljava/lang/Class;" } : Jvm.MethodName) ({ cls := "java/lang/Object", name := "getClass", desc := "()Ljava/lang/Class;" } : Jvm.MethodName)) ∈ lw_all := lw_g (lw_at lw_m4 57 rfl) rfl
theorem q1341 : (Jvm.Cond.instanceMethod ({ cls := "java/util/ArrayDeque", name := "addLast", desc := "(Ljava/lang/Object;)V" } : Jvm.MethodName)) ∈ lw_all := lw_g (lw_at lw_m6 26 rfl) rfl
theorem q1342 : (Jvm.Cond.selects "java/util/ArrayDeque" ({ cls := "java/util/ArrayDeque", name := "addLast", desc := "(Ljava/lang/Object;)V" } : Jvm.MethodName) ({ cls := "java/util/ArrayDeque", name := "addLast", desc := "(Ljava/lang/Object;)V" } : Jvm.MethodName)) ∈ lw_all := lw_g (lw_at lw_m6 27 rfl) rfl
theorem q1343 : (Jvm.Cond.code ({ cls := "java/util/ArrayDeque", name := "addLast", desc := "(Ljava/lang/Object;)V" } : Jvm.MethodName) prog_42_method_13_code (3 : Nat) (Option.none : Option Jvm.ClassFile.FieldType)) ∈ lw_all := lw_g (lw_at lw_m6 28 rfl) rfl
theorem q1344 : (Jvm.Cond.methodLink "java/util/ArrayDeque" (74 : Nat) ({ cls := "java/util/ArrayDeque", name := "inc", desc := "(II)I" } : Jvm.MethodName)) ∈ lw_all := lw_g (lw_at lw_m6 29 rfl) rfl
theorem q1345 : (Jvm.Cond.static ({ cls := "java/util/ArrayDeque", name := "inc", desc := "(II)I" } : Jvm.MethodName)) ∈ lw_all := lw_g (lw_at lw_m6 30 rfl) rfl
theorem q1346 : (Jvm.Cond.code ({ cls := "java/util/ArrayDeque", name := "inc", desc := "(II)I" } : Jvm.MethodName) prog_42_method_6_code (2 : Nat) (Option.some Jvm.ClassFile.FieldType.int)) ∈ lw_all := lw_g (lw_at lw_m6 31 rfl) rfl
theorem q1347 : (Jvm.Cond.methodLink "java/util/ArrayDeque" (71 : Nat) ({ cls := "java/util/ArrayDeque", name := "grow", desc := "(I)V" } : Jvm.MethodName)) ∈ lw_all := lw_g (lw_at lw_m6 32 rfl) rfl
theorem q1348 : (Jvm.Cond.privateMethod ({ cls := "java/util/ArrayDeque", name := "grow", desc := "(I)V" } : Jvm.MethodName)) ∈ lw_tbl := lw_at lw_m6 33 rfl
theorem q1349 : (Jvm.Cond.instanceMethod ({ cls := "java/util/ArrayDeque", name := "grow", desc := "(I)V" } : Jvm.MethodName)) ∈ lw_all := lw_g (lw_at lw_m6 34 rfl) rfl
theorem q1350 : (Jvm.Cond.code ({ cls := "java/util/ArrayDeque", name := "grow", desc := "(I)V" } : Jvm.MethodName) prog_42_method_1_code (9 : Nat) (Option.none : Option Jvm.ClassFile.FieldType)) ∈ lw_all := lw_g (lw_at lw_m6 35 rfl) rfl
theorem q1351 : (Jvm.Cond.constant "java/util/ArrayDeque" (9 : Nat) (2147483639 : Int32)) ∈ lw_all := lw_g (lw_at lw_m6 36 rfl) rfl
theorem q1352 : (Jvm.Cond.methodLink "java/util/ArrayDeque" (10 : Nat) ({ cls := "java/util/ArrayDeque", name := "newCapacity", desc := "(II)I" } : Jvm.MethodName)) ∈ lw_all := lw_g (lw_at lw_m6 37 rfl) rfl
theorem q1353 : (Jvm.Cond.privateMethod ({ cls := "java/util/ArrayDeque", name := "newCapacity", desc := "(II)I" } : Jvm.MethodName)) ∈ lw_tbl := lw_at lw_m6 38 rfl
theorem q1354 : (Jvm.Cond.instanceMethod ({ cls := "java/util/ArrayDeque", name := "newCapacity", desc := "(II)I" } : Jvm.MethodName)) ∈ lw_all := lw_g (lw_at lw_m6 39 rfl) rfl
theorem q1355 : (Jvm.Cond.code ({ cls := "java/util/ArrayDeque", name := "newCapacity", desc := "(II)I" } : Jvm.MethodName) prog_42_method_2_code (5 : Nat) (Option.some Jvm.ClassFile.FieldType.int)) ∈ lw_all := lw_g (lw_at lw_m6 40 rfl) rfl
theorem q1356 : (Jvm.Cond.classLink "java/util/ArrayDeque" (33 : Nat) "java/lang/IllegalStateException") ∈ lw_all := lw_g (lw_at lw_m6 41 rfl) rfl
theorem q1357 : (Jvm.Cond.stringRef "java/util/ArrayDeque" (35 : Nat) "Sorry, deque too big") ∈ lw_tbl := lw_at lw_m6 42 rfl
theorem q1358 : (Jvm.Cond.methodLink "java/util/ArrayDeque" (37 : Nat) ({ cls := "java/lang/IllegalStateException", name := "<init>", desc := "(Ljava/lang/String;)V" } : Jvm.MethodName)) ∈ lw_all := lw_g (lw_at lw_m6 43 rfl) rfl
theorem q1362 : (Jvm.Cond.constant "java/util/ArrayDeque" (41 : Nat) (2147483647 : Int32)) ∈ lw_all := lw_g (lw_at lw_m6 47 rfl) rfl
theorem q1363 : (Jvm.Cond.methodLink "java/util/ArrayDeque" (14 : Nat) ({ cls := "java/util/Arrays", name := "copyOf", desc := "([Ljava/lang/Object;I)[Ljava/lang/Object;" } : Jvm.MethodName)) ∈ lw_all := lw_g (lw_at lw_m6 48 rfl) rfl
theorem q1364 : (Jvm.Cond.methodLink "java/util/ArrayDeque" (27 : Nat) ({ cls := "java/lang/System", name := "arraycopy", desc := "(Ljava/lang/Object;ILjava/lang/Object;II)V" } : Jvm.MethodName)) ∈ lw_all := lw_g (lw_at lw_m6 49 rfl) rfl
theorem q1366 : (Jvm.Cond.instanceMethod ({ cls := "java/util/ArrayDeque", name := "size", desc := "()I" } : Jvm.MethodName)) ∈ lw_all := lw_g (lw_at lw_m6 51 rfl) rfl
theorem q1367 : (Jvm.Cond.selects "java/util/ArrayDeque" ({ cls := "java/util/ArrayDeque", name := "size", desc := "()I" } : Jvm.MethodName) ({ cls := "java/util/ArrayDeque", name := "size", desc := "()I" } : Jvm.MethodName)) ∈ lw_all := lw_g (lw_at lw_m6 52 rfl) rfl
theorem q1368 : (Jvm.Cond.code ({ cls := "java/util/ArrayDeque", name := "size", desc := "()I" } : Jvm.MethodName) prog_42_method_37_code (1 : Nat) (Option.some Jvm.ClassFile.FieldType.int)) ∈ lw_all := lw_g (lw_at lw_m6 53 rfl) rfl
theorem q1369 : (Jvm.Cond.methodLink "java/util/ArrayDeque" (127 : Nat) ({ cls := "java/util/ArrayDeque", name := "sub", desc := "(III)I" } : Jvm.MethodName)) ∈ lw_all := lw_g (lw_at lw_m6 54 rfl) rfl
theorem q1370 : (Jvm.Cond.static ({ cls := "java/util/ArrayDeque", name := "sub", desc := "(III)I" } : Jvm.MethodName)) ∈ lw_all := lw_g (lw_at lw_m6 55 rfl) rfl
theorem q1371 : (Jvm.Cond.code ({ cls := "java/util/ArrayDeque", name := "sub", desc := "(III)I" } : Jvm.MethodName) prog_42_method_9_code (3 : Nat) (Option.some Jvm.ClassFile.FieldType.int)) ∈ lw_all := lw_g (lw_at lw_m6 56 rfl) rfl
theorem q1373 : (Jvm.Cond.instanceMethod ({ cls := "java/util/ArrayDeque", name := "removeFirst", desc := "()Ljava/lang/Object;" } : Jvm.MethodName)) ∈ lw_all := lw_g (lw_at lw_m6 58 rfl) rfl
theorem q1374 : (Jvm.Cond.selects "java/util/ArrayDeque" ({ cls := "java/util/ArrayDeque", name := "removeFirst", desc := "()Ljava/lang/Object;" } : Jvm.MethodName) ({ cls := "java/util/ArrayDeque", name := "removeFirst", desc := "()Ljava/lang/Object;" } : Jvm.MethodName)) ∈ lw_all := lw_g (lw_at lw_m6 59 rfl) rfl
theorem q1375 : (Jvm.Cond.code ({ cls := "java/util/ArrayDeque", name := "removeFirst", desc := "()Ljava/lang/Object;" } : Jvm.MethodName) prog_42_method_18_code (2 : Nat) (Option.some (Jvm.ClassFile.FieldType.object "java/lang/Object"))) ∈ lw_all := lw_g (lw_at lw_m6 60 rfl) rfl
theorem q1376 : (Jvm.Cond.methodLink "java/util/ArrayDeque" (93 : Nat) ({ cls := "java/util/ArrayDeque", name := "pollFirst", desc := "()Ljava/lang/Object;" } : Jvm.MethodName)) ∈ lw_all := lw_g (lw_at lw_m6 61 rfl) rfl
theorem q1377 : (Jvm.Cond.instanceMethod ({ cls := "java/util/ArrayDeque", name := "pollFirst", desc := "()Ljava/lang/Object;" } : Jvm.MethodName)) ∈ lw_all := lw_g (lw_at lw_m6 62 rfl) rfl
theorem q1378 : (Jvm.Cond.selects "java/util/ArrayDeque" ({ cls := "java/util/ArrayDeque", name := "pollFirst", desc := "()Ljava/lang/Object;" } : Jvm.MethodName) ({ cls := "java/util/ArrayDeque", name := "pollFirst", desc := "()Ljava/lang/Object;" } : Jvm.MethodName)) ∈ lw_all := lw_g (lw_at lw_m6 63 rfl) rfl
theorem q1379 : (Jvm.Cond.code ({ cls := "java/util/ArrayDeque", name := "pollFirst", desc := "()Ljava/lang/Object;" } : Jvm.MethodName) prog_42_method_20_code (4 : Nat) (Option.some (Jvm.ClassFile.FieldType.object "java/lang/Object"))) ∈ lw_all := lw_g (lw_at lw_m6 64 rfl) rfl
theorem q1380 : (Jvm.Cond.methodLink "java/util/ArrayDeque" (103 : Nat) ({ cls := "java/util/ArrayDeque", name := "elementAt", desc := "([Ljava/lang/Object;I)Ljava/lang/Object;" } : Jvm.MethodName)) ∈ lw_all := lw_g (lw_at lw_m6 65 rfl) rfl
theorem q1381 : (Jvm.Cond.static ({ cls := "java/util/ArrayDeque", name := "elementAt", desc := "([Ljava/lang/Object;I)Ljava/lang/Object;" } : Jvm.MethodName)) ∈ lw_all := lw_g (lw_at lw_m6 66 rfl) rfl
theorem q1382 : (Jvm.Cond.code ({ cls := "java/util/ArrayDeque", name := "elementAt", desc := "([Ljava/lang/Object;I)Ljava/lang/Object;" } : Jvm.MethodName) prog_42_method_10_code (2 : Nat) (Option.some (Jvm.ClassFile.FieldType.object "java/lang/Object"))) ∈ lw_all := lw_g (lw_at lw_m6 67 rfl) rfl
theorem q1383 : (Jvm.Cond.classLink "java/util/ArrayDeque" (97 : Nat) "java/util/NoSuchElementException") ∈ lw_all := lw_g (lw_at lw_m6 68 rfl) rfl
theorem q1392 : (Jvm.Cond.methodLink "java/util/ArrayDeque" (99 : Nat) ({ cls := "java/util/NoSuchElementException", name := "<init>", desc := "()V" } : Jvm.MethodName)) ∈ lw_all := lw_g (lw_at lw_m6 77 rfl) rfl
theorem q1477 : (Jvm.Cond.instanceMethod ({ cls := "java/util/ArrayDeque", name := "isEmpty", desc := "()Z" } : Jvm.MethodName)) ∈ lw_all := lw_g (lw_at lw_m6 162 rfl) rfl
theorem q1478 : (Jvm.Cond.selects "java/util/ArrayDeque" ({ cls := "java/util/ArrayDeque", name := "isEmpty", desc := "()Z" } : Jvm.MethodName) ({ cls := "java/util/ArrayDeque", name := "isEmpty", desc := "()Z" } : Jvm.MethodName)) ∈ lw_all := lw_g (lw_at lw_m6 163 rfl) rfl
theorem q1479 : (Jvm.Cond.code ({ cls := "java/util/ArrayDeque", name := "isEmpty", desc := "()Z" } : Jvm.MethodName) prog_42_method_38_code (1 : Nat) (Option.some Jvm.ClassFile.FieldType.boolean)) ∈ lw_all := lw_g (lw_at lw_m6 164 rfl) rfl
theorem q1481 : (Jvm.Cond.instanceMethod ({ cls := "java/util/ArrayDeque", name := "removeLast", desc := "()Ljava/lang/Object;" } : Jvm.MethodName)) ∈ lw_all := lw_g (lw_at lw_m6 166 rfl) rfl
theorem q1482 : (Jvm.Cond.selects "java/util/ArrayDeque" ({ cls := "java/util/ArrayDeque", name := "removeLast", desc := "()Ljava/lang/Object;" } : Jvm.MethodName) ({ cls := "java/util/ArrayDeque", name := "removeLast", desc := "()Ljava/lang/Object;" } : Jvm.MethodName)) ∈ lw_all := lw_g (lw_at lw_m6 167 rfl) rfl
theorem q1483 : (Jvm.Cond.code ({ cls := "java/util/ArrayDeque", name := "removeLast", desc := "()Ljava/lang/Object;" } : Jvm.MethodName) prog_42_method_19_code (2 : Nat) (Option.some (Jvm.ClassFile.FieldType.object "java/lang/Object"))) ∈ lw_all := lw_g (lw_at lw_m6 168 rfl) rfl
theorem q1484 : (Jvm.Cond.methodLink "java/util/ArrayDeque" (100 : Nat) ({ cls := "java/util/ArrayDeque", name := "pollLast", desc := "()Ljava/lang/Object;" } : Jvm.MethodName)) ∈ lw_all := lw_g (lw_at lw_m6 169 rfl) rfl
theorem q1485 : (Jvm.Cond.instanceMethod ({ cls := "java/util/ArrayDeque", name := "pollLast", desc := "()Ljava/lang/Object;" } : Jvm.MethodName)) ∈ lw_all := lw_g (lw_at lw_m6 170 rfl) rfl
theorem q1486 : (Jvm.Cond.selects "java/util/ArrayDeque" ({ cls := "java/util/ArrayDeque", name := "pollLast", desc := "()Ljava/lang/Object;" } : Jvm.MethodName) ({ cls := "java/util/ArrayDeque", name := "pollLast", desc := "()Ljava/lang/Object;" } : Jvm.MethodName)) ∈ lw_all := lw_g (lw_at lw_m6 171 rfl) rfl
theorem q1487 : (Jvm.Cond.code ({ cls := "java/util/ArrayDeque", name := "pollLast", desc := "()Ljava/lang/Object;" } : Jvm.MethodName) prog_42_method_21_code (4 : Nat) (Option.some (Jvm.ClassFile.FieldType.object "java/lang/Object"))) ∈ lw_all := lw_g (lw_at lw_m6 172 rfl) rfl
theorem q1488 : (Jvm.Cond.methodLink "java/util/ArrayDeque" (68 : Nat) ({ cls := "java/util/ArrayDeque", name := "dec", desc := "(II)I" } : Jvm.MethodName)) ∈ lw_all := lw_g (lw_at lw_m6 173 rfl) rfl
theorem q1489 : (Jvm.Cond.static ({ cls := "java/util/ArrayDeque", name := "dec", desc := "(II)I" } : Jvm.MethodName)) ∈ lw_all := lw_g (lw_at lw_m6 174 rfl) rfl
theorem q1490 : (Jvm.Cond.code ({ cls := "java/util/ArrayDeque", name := "dec", desc := "(II)I" } : Jvm.MethodName) prog_42_method_7_code (2 : Nat) (Option.some Jvm.ClassFile.FieldType.int)) ∈ lw_all := lw_g (lw_at lw_m6 175 rfl) rfl
theorem q1810 : (Jvm.Cond.instanceMethod ({ cls := "java/util/ArrayDeque", name := "clear", desc := "()V" } : Jvm.MethodName)) ∈ lw_all := lw_g (lw_at lw_m8 15 rfl) rfl
theorem q1811 : (Jvm.Cond.selects "java/util/ArrayDeque" ({ cls := "java/util/ArrayDeque", name := "clear", desc := "()V" } : Jvm.MethodName) ({ cls := "java/util/ArrayDeque", name := "clear", desc := "()V" } : Jvm.MethodName)) ∈ lw_all := lw_g (lw_at lw_m8 16 rfl) rfl
theorem q1812 : (Jvm.Cond.code ({ cls := "java/util/ArrayDeque", name := "clear", desc := "()V" } : Jvm.MethodName) prog_42_method_53_code (1 : Nat) (Option.none : Option Jvm.ClassFile.FieldType)) ∈ lw_all := lw_g (lw_at lw_m8 17 rfl) rfl
theorem q1813 : (Jvm.Cond.methodLink "java/util/ArrayDeque" (181 : Nat) ({ cls := "java/util/ArrayDeque", name := "circularClear", desc := "([Ljava/lang/Object;II)V" } : Jvm.MethodName)) ∈ lw_all := lw_g (lw_at lw_m8 18 rfl) rfl
theorem q1814 : (Jvm.Cond.static ({ cls := "java/util/ArrayDeque", name := "circularClear", desc := "([Ljava/lang/Object;II)V" } : Jvm.MethodName)) ∈ lw_all := lw_g (lw_at lw_m8 19 rfl) rfl
theorem q1815 : (Jvm.Cond.code ({ cls := "java/util/ArrayDeque", name := "circularClear", desc := "([Ljava/lang/Object;II)V" } : Jvm.MethodName) prog_42_method_54_code (4 : Nat) (Option.none : Option Jvm.ClassFile.FieldType)) ∈ lw_all := lw_g (lw_at lw_m8 20 rfl) rfl
theorem q2720 : (Jvm.Cond.castable "java/util/ArrayDeque" "java/lang/Object") ∈ lw_tbl := lw_at lw_m11 205 rfl
theorem in_J1 : ∀ w ∈ wsJ10, w ∈ lw_all := lw_in wsJ10 [178, 180, 182] (by decide +kernel) (by decide +kernel)

/-! java/lang/AbstractStringBuilder -/
set_option maxRecDepth 100000
def RJ2 : String := "java/lang/AbstractStringBuilder"
abbrev cJ2_init : ByteArray := prog_13_method_2_code
def yJ2_init : MethodName := ⟨RJ2, "<init>", "(I)V"⟩
def dkwJ2_init_1 : List UInt8 := [167, 0, 16, 42, 27, 184, 0, 26, 181, 0, 15, 42, 4, 181, 0, 22, 177]
abbrev dktJ2_init_1 : List UInt8 := dkwJ2_init_1 ++ []
def dkwJ2_init_0 : List UInt8 := [42, 183, 0, 3, 178, 0, 18, 153, 0, 18, 42, 27, 188, 8, 181, 0, 15, 42, 3, 181, 0, 22]
abbrev dktJ2_init_0 : List UInt8 := dkwJ2_init_0 ++ dktJ2_init_1
theorem dksJ2_init_0 : cJ2_init.data.toList.drop 0 = dktJ2_init_0 := by decide +kernel
theorem dksJ2_init_1 : cJ2_init.data.toList.drop 22 = dktJ2_init_1 := dk_seg dksJ2_init_0 22 rfl rfl
theorem dJ2_init_0 : decode cJ2_init 0 = .ok (.aload_n 0, 1) := dk_42 (dk_at dksJ2_init_0 0 rfl rfl)
theorem dJ2_init_1 : decode cJ2_init 1 = .ok (.invokespecial 3, 3) := dk_183 0 3 (dk_at dksJ2_init_0 1 rfl rfl)
theorem dJ2_init_4 : decode cJ2_init 4 = .ok (.getstatic 18, 3) := dk_178 0 18 (dk_at dksJ2_init_0 4 rfl rfl)
theorem dJ2_init_7 : decode cJ2_init 7 = .ok (.ifCond .eq 18, 3) := dk_153 0 18 (dk_at dksJ2_init_0 7 rfl rfl)
theorem dJ2_init_10 : decode cJ2_init 10 = .ok (.aload_n 0, 1) := dk_42 (dk_at dksJ2_init_0 10 rfl rfl)
theorem dJ2_init_11 : decode cJ2_init 11 = .ok (.iload_n 1, 1) := dk_27 (dk_at dksJ2_init_0 11 rfl rfl)
theorem dJ2_init_12 : decode cJ2_init 12 = .ok (.newarray .byte, 2) := dk_188_8 (dk_at dksJ2_init_0 12 rfl rfl)
theorem dJ2_init_14 : decode cJ2_init 14 = .ok (.putfield 15, 3) := dk_181 0 15 (dk_at dksJ2_init_0 14 rfl rfl)
theorem dJ2_init_17 : decode cJ2_init 17 = .ok (.aload_n 0, 1) := dk_42 (dk_at dksJ2_init_0 17 rfl rfl)
theorem dJ2_init_18 : decode cJ2_init 18 = .ok (.iconst 0, 1) := dk_3 (dk_at dksJ2_init_0 18 rfl rfl)
theorem dJ2_init_19 : decode cJ2_init 19 = .ok (.putfield 22, 3) := dk_181 0 22 (dk_at dksJ2_init_0 19 rfl rfl)
theorem dJ2_init_22 : decode cJ2_init 22 = .ok (.goto 16, 3) := dk_167 0 16 (dk_at dksJ2_init_1 0 rfl rfl)
theorem dJ2_init_25 : decode cJ2_init 25 = .ok (.aload_n 0, 1) := dk_42 (dk_at dksJ2_init_1 3 rfl rfl)
theorem dJ2_init_26 : decode cJ2_init 26 = .ok (.iload_n 1, 1) := dk_27 (dk_at dksJ2_init_1 4 rfl rfl)
theorem dJ2_init_27 : decode cJ2_init 27 = .ok (.invokestatic 26, 3) := dk_184 0 26 (dk_at dksJ2_init_1 5 rfl rfl)
theorem dJ2_init_30 : decode cJ2_init 30 = .ok (.putfield 15, 3) := dk_181 0 15 (dk_at dksJ2_init_1 8 rfl rfl)
theorem dJ2_init_33 : decode cJ2_init 33 = .ok (.aload_n 0, 1) := dk_42 (dk_at dksJ2_init_1 11 rfl rfl)
theorem dJ2_init_34 : decode cJ2_init 34 = .ok (.iconst 1, 1) := dk_4 (dk_at dksJ2_init_1 12 rfl rfl)
theorem dJ2_init_35 : decode cJ2_init 35 = .ok (.putfield 22, 3) := dk_181 0 22 (dk_at dksJ2_init_1 13 rfl rfl)
theorem dJ2_init_38 : decode cJ2_init 38 = .ok (.return_, 1) := dk_177 (dk_at dksJ2_init_1 16 rfl rfl)
abbrev cJ2_append : ByteArray := prog_13_method_32_code
def yJ2_append : MethodName := ⟨RJ2, "append", "(I)Ljava/lang/AbstractStringBuilder;"⟩
def dkwJ2_append_2 : List UInt8 := [42, 29, 181, 0, 79, 42, 176]
abbrev dktJ2_append_2 : List UInt8 := dkwJ2_append_2 ++ []
def dkwJ2_append_1 : List UInt8 := [27, 29, 42, 180, 0, 15, 184, 0, 248, 87, 167, 0, 14, 27, 28, 29, 42, 180, 0, 15, 184, 0, 251, 87]
abbrev dktJ2_append_1 : List UInt8 := dkwJ2_append_1 ++ dktJ2_append_2
def dkwJ2_append_0 : List UInt8 := [42, 180, 0, 79, 61, 28, 27, 184, 0, 245, 96, 62, 42, 29, 182, 0, 100, 42, 182, 0, 83, 153, 0, 16]
abbrev dktJ2_append_0 : List UInt8 := dkwJ2_append_0 ++ dktJ2_append_1
theorem dksJ2_append_0 : cJ2_append.data.toList.drop 0 = dktJ2_append_0 := by decide +kernel
theorem dksJ2_append_1 : cJ2_append.data.toList.drop 24 = dktJ2_append_1 := dk_seg dksJ2_append_0 24 rfl rfl
theorem dksJ2_append_2 : cJ2_append.data.toList.drop 48 = dktJ2_append_2 := dk_seg dksJ2_append_1 24 rfl rfl
theorem dJ2_append_0 : decode cJ2_append 0 = .ok (.aload_n 0, 1) := dk_42 (dk_at dksJ2_append_0 0 rfl rfl)
theorem dJ2_append_1 : decode cJ2_append 1 = .ok (.getfield 79, 3) := dk_180 0 79 (dk_at dksJ2_append_0 1 rfl rfl)
theorem dJ2_append_4 : decode cJ2_append 4 = .ok (.istore_n 2, 1) := dk_61 (dk_at dksJ2_append_0 4 rfl rfl)
theorem dJ2_append_5 : decode cJ2_append 5 = .ok (.iload_n 2, 1) := dk_28 (dk_at dksJ2_append_0 5 rfl rfl)
theorem dJ2_append_6 : decode cJ2_append 6 = .ok (.iload_n 1, 1) := dk_27 (dk_at dksJ2_append_0 6 rfl rfl)
theorem dJ2_append_7 : decode cJ2_append 7 = .ok (.invokestatic 245, 3) := dk_184 0 245 (dk_at dksJ2_append_0 7 rfl rfl)
theorem dJ2_append_10 : decode cJ2_append 10 = .ok (.iadd, 1) := dk_96 (dk_at dksJ2_append_0 10 rfl rfl)
theorem dJ2_append_11 : decode cJ2_append 11 = .ok (.istore_n 3, 1) := dk_62 (dk_at dksJ2_append_0 11 rfl rfl)
theorem dJ2_append_12 : decode cJ2_append 12 = .ok (.aload_n 0, 1) := dk_42 (dk_at dksJ2_append_0 12 rfl rfl)
theorem dJ2_append_13 : decode cJ2_append 13 = .ok (.iload_n 3, 1) := dk_29 (dk_at dksJ2_append_0 13 rfl rfl)
theorem dJ2_append_14 : decode cJ2_append 14 = .ok (.invokevirtual 100, 3) := dk_182 0 100 (dk_at dksJ2_append_0 14 rfl rfl)
theorem dJ2_append_17 : decode cJ2_append 17 = .ok (.aload_n 0, 1) := dk_42 (dk_at dksJ2_append_0 17 rfl rfl)
theorem dJ2_append_18 : decode cJ2_append 18 = .ok (.invokevirtual 83, 3) := dk_182 0 83 (dk_at dksJ2_append_0 18 rfl rfl)
theorem dJ2_append_21 : decode cJ2_append 21 = .ok (.ifCond .eq 16, 3) := dk_153 0 16 (dk_at dksJ2_append_0 21 rfl rfl)
theorem dJ2_append_24 : decode cJ2_append 24 = .ok (.iload_n 1, 1) := dk_27 (dk_at dksJ2_append_1 0 rfl rfl)
theorem dJ2_append_25 : decode cJ2_append 25 = .ok (.iload_n 3, 1) := dk_29 (dk_at dksJ2_append_1 1 rfl rfl)
theorem dJ2_append_26 : decode cJ2_append 26 = .ok (.aload_n 0, 1) := dk_42 (dk_at dksJ2_append_1 2 rfl rfl)
theorem dJ2_append_27 : decode cJ2_append 27 = .ok (.getfield 15, 3) := dk_180 0 15 (dk_at dksJ2_append_1 3 rfl rfl)
theorem dJ2_append_30 : decode cJ2_append 30 = .ok (.invokestatic 248, 3) := dk_184 0 248 (dk_at dksJ2_append_1 6 rfl rfl)
theorem dJ2_append_33 : decode cJ2_append 33 = .ok (.pop, 1) := dk_87 (dk_at dksJ2_append_1 9 rfl rfl)
theorem dJ2_append_34 : decode cJ2_append 34 = .ok (.goto 14, 3) := dk_167 0 14 (dk_at dksJ2_append_1 10 rfl rfl)
theorem dJ2_append_37 : decode cJ2_append 37 = .ok (.iload_n 1, 1) := dk_27 (dk_at dksJ2_append_1 13 rfl rfl)
theorem dJ2_append_38 : decode cJ2_append 38 = .ok (.iload_n 2, 1) := dk_28 (dk_at dksJ2_append_1 14 rfl rfl)
theorem dJ2_append_39 : decode cJ2_append 39 = .ok (.iload_n 3, 1) := dk_29 (dk_at dksJ2_append_1 15 rfl rfl)
theorem dJ2_append_40 : decode cJ2_append 40 = .ok (.aload_n 0, 1) := dk_42 (dk_at dksJ2_append_1 16 rfl rfl)
theorem dJ2_append_41 : decode cJ2_append 41 = .ok (.getfield 15, 3) := dk_180 0 15 (dk_at dksJ2_append_1 17 rfl rfl)
theorem dJ2_append_44 : decode cJ2_append 44 = .ok (.invokestatic 251, 3) := dk_184 0 251 (dk_at dksJ2_append_1 20 rfl rfl)
theorem dJ2_append_47 : decode cJ2_append 47 = .ok (.pop, 1) := dk_87 (dk_at dksJ2_append_1 23 rfl rfl)
theorem dJ2_append_48 : decode cJ2_append 48 = .ok (.aload_n 0, 1) := dk_42 (dk_at dksJ2_append_2 0 rfl rfl)
theorem dJ2_append_49 : decode cJ2_append 49 = .ok (.iload_n 3, 1) := dk_29 (dk_at dksJ2_append_2 1 rfl rfl)
theorem dJ2_append_50 : decode cJ2_append 50 = .ok (.putfield 79, 3) := dk_181 0 79 (dk_at dksJ2_append_2 2 rfl rfl)
theorem dJ2_append_53 : decode cJ2_append 53 = .ok (.aload_n 0, 1) := dk_42 (dk_at dksJ2_append_2 5 rfl rfl)
theorem dJ2_append_54 : decode cJ2_append 54 = .ok (.areturn, 1) := dk_176 (dk_at dksJ2_append_2 6 rfl rfl)
abbrev cJ2_ensureCapacityInternal : ByteArray := prog_13_method_9_code
def yJ2_ensureCapacityInternal : MethodName := ⟨RJ2, "ensureCapacityInternal", "(I)V"⟩
def dkwJ2_ensureCapacityInternal_1 : List UInt8 := [182, 0, 104, 42, 180, 0, 22, 120, 184, 0, 108, 181, 0, 15, 177]
abbrev dktJ2_ensureCapacityInternal_1 : List UInt8 := dkwJ2_ensureCapacityInternal_1 ++ []
def dkwJ2_ensureCapacityInternal_0 : List UInt8 := [42, 180, 0, 15, 190, 42, 180, 0, 22, 122, 61, 27, 28, 100, 158, 0, 24, 42, 42, 180, 0, 15, 42, 27]
abbrev dktJ2_ensureCapacityInternal_0 : List UInt8 := dkwJ2_ensureCapacityInternal_0 ++ dktJ2_ensureCapacityInternal_1
theorem dksJ2_ensureCapacityInternal_0 : cJ2_ensureCapacityInternal.data.toList.drop 0 = dktJ2_ensureCapacityInternal_0 := by decide +kernel
theorem dksJ2_ensureCapacityInternal_1 : cJ2_ensureCapacityInternal.data.toList.drop 24 = dktJ2_ensureCapacityInternal_1 := dk_seg dksJ2_ensureCapacityInternal_0 24 rfl rfl
theorem dJ2_ensureCapacityInternal_0 : decode cJ2_ensureCapacityInternal 0 = .ok (.aload_n 0, 1) := dk_42 (dk_at dksJ2_ensureCapacityInternal_0 0 rfl rfl)
theorem dJ2_ensureCapacityInternal_1 : decode cJ2_ensureCapacityInternal 1 = .ok (.getfield 15, 3) := dk_180 0 15 (dk_at dksJ2_ensureCapacityInternal_0 1 rfl rfl)
theorem dJ2_ensureCapacityInternal_4 : decode cJ2_ensureCapacityInternal 4 = .ok (.arraylength, 1) := dk_190 (dk_at dksJ2_ensureCapacityInternal_0 4 rfl rfl)
theorem dJ2_ensureCapacityInternal_5 : decode cJ2_ensureCapacityInternal 5 = .ok (.aload_n 0, 1) := dk_42 (dk_at dksJ2_ensureCapacityInternal_0 5 rfl rfl)
theorem dJ2_ensureCapacityInternal_6 : decode cJ2_ensureCapacityInternal 6 = .ok (.getfield 22, 3) := dk_180 0 22 (dk_at dksJ2_ensureCapacityInternal_0 6 rfl rfl)
theorem dJ2_ensureCapacityInternal_9 : decode cJ2_ensureCapacityInternal 9 = .ok (.ishr, 1) := dk_122 (dk_at dksJ2_ensureCapacityInternal_0 9 rfl rfl)
theorem dJ2_ensureCapacityInternal_10 : decode cJ2_ensureCapacityInternal 10 = .ok (.istore_n 2, 1) := dk_61 (dk_at dksJ2_ensureCapacityInternal_0 10 rfl rfl)
theorem dJ2_ensureCapacityInternal_11 : decode cJ2_ensureCapacityInternal 11 = .ok (.iload_n 1, 1) := dk_27 (dk_at dksJ2_ensureCapacityInternal_0 11 rfl rfl)
theorem dJ2_ensureCapacityInternal_12 : decode cJ2_ensureCapacityInternal 12 = .ok (.iload_n 2, 1) := dk_28 (dk_at dksJ2_ensureCapacityInternal_0 12 rfl rfl)
theorem dJ2_ensureCapacityInternal_13 : decode cJ2_ensureCapacityInternal 13 = .ok (.isub, 1) := dk_100 (dk_at dksJ2_ensureCapacityInternal_0 13 rfl rfl)
theorem dJ2_ensureCapacityInternal_14 : decode cJ2_ensureCapacityInternal 14 = .ok (.ifCond .le 24, 3) := dk_158 0 24 (dk_at dksJ2_ensureCapacityInternal_0 14 rfl rfl)
theorem dJ2_ensureCapacityInternal_17 : decode cJ2_ensureCapacityInternal 17 = .ok (.aload_n 0, 1) := dk_42 (dk_at dksJ2_ensureCapacityInternal_0 17 rfl rfl)
theorem dJ2_ensureCapacityInternal_18 : decode cJ2_ensureCapacityInternal 18 = .ok (.aload_n 0, 1) := dk_42 (dk_at dksJ2_ensureCapacityInternal_0 18 rfl rfl)
theorem dJ2_ensureCapacityInternal_19 : decode cJ2_ensureCapacityInternal 19 = .ok (.getfield 15, 3) := dk_180 0 15 (dk_at dksJ2_ensureCapacityInternal_0 19 rfl rfl)
theorem dJ2_ensureCapacityInternal_22 : decode cJ2_ensureCapacityInternal 22 = .ok (.aload_n 0, 1) := dk_42 (dk_at dksJ2_ensureCapacityInternal_0 22 rfl rfl)
theorem dJ2_ensureCapacityInternal_23 : decode cJ2_ensureCapacityInternal 23 = .ok (.iload_n 1, 1) := dk_27 (dk_at dksJ2_ensureCapacityInternal_0 23 rfl rfl)
theorem dJ2_ensureCapacityInternal_24 : decode cJ2_ensureCapacityInternal 24 = .ok (.invokevirtual 104, 3) := dk_182 0 104 (dk_at dksJ2_ensureCapacityInternal_1 0 rfl rfl)
theorem dJ2_ensureCapacityInternal_27 : decode cJ2_ensureCapacityInternal 27 = .ok (.aload_n 0, 1) := dk_42 (dk_at dksJ2_ensureCapacityInternal_1 3 rfl rfl)
theorem dJ2_ensureCapacityInternal_28 : decode cJ2_ensureCapacityInternal 28 = .ok (.getfield 22, 3) := dk_180 0 22 (dk_at dksJ2_ensureCapacityInternal_1 4 rfl rfl)
theorem dJ2_ensureCapacityInternal_31 : decode cJ2_ensureCapacityInternal 31 = .ok (.ishl, 1) := dk_120 (dk_at dksJ2_ensureCapacityInternal_1 7 rfl rfl)
theorem dJ2_ensureCapacityInternal_32 : decode cJ2_ensureCapacityInternal 32 = .ok (.invokestatic 108, 3) := dk_184 0 108 (dk_at dksJ2_ensureCapacityInternal_1 8 rfl rfl)
theorem dJ2_ensureCapacityInternal_35 : decode cJ2_ensureCapacityInternal 35 = .ok (.putfield 15, 3) := dk_181 0 15 (dk_at dksJ2_ensureCapacityInternal_1 11 rfl rfl)
theorem dJ2_ensureCapacityInternal_38 : decode cJ2_ensureCapacityInternal 38 = .ok (.return_, 1) := dk_177 (dk_at dksJ2_ensureCapacityInternal_1 14 rfl rfl)
abbrev cJ2_newCapacity : ByteArray := prog_13_method_10_code
def yJ2_newCapacity : MethodName := ⟨RJ2, "newCapacity", "(I)I"⟩
def dkwJ2_newCapacity_2 : List UInt8 := [183, 0, 124, 191, 21, 5, 42, 180, 0, 22, 122, 172]
abbrev dktJ2_newCapacity_2 : List UInt8 := dkwJ2_newCapacity_2 ++ []
def dkwJ2_newCapacity_1 : List UInt8 := [180, 0, 22, 120, 96, 184, 0, 114, 54, 5, 21, 5, 18, 39, 160, 0, 13, 187, 0, 120, 89, 18, 122]
abbrev dktJ2_newCapacity_1 : List UInt8 := dkwJ2_newCapacity_1 ++ dktJ2_newCapacity_2
def dkwJ2_newCapacity_0 : List UInt8 := [42, 180, 0, 15, 190, 61, 27, 42, 180, 0, 22, 120, 62, 29, 28, 100, 54, 4, 28, 21, 4, 28, 5, 42]
abbrev dktJ2_newCapacity_0 : List UInt8 := dkwJ2_newCapacity_0 ++ dktJ2_newCapacity_1
theorem dksJ2_newCapacity_0 : cJ2_newCapacity.data.toList.drop 0 = dktJ2_newCapacity_0 := by decide +kernel
theorem dksJ2_newCapacity_1 : cJ2_newCapacity.data.toList.drop 24 = dktJ2_newCapacity_1 := dk_seg dksJ2_newCapacity_0 24 rfl rfl
theorem dksJ2_newCapacity_2 : cJ2_newCapacity.data.toList.drop 47 = dktJ2_newCapacity_2 := dk_seg dksJ2_newCapacity_1 23 rfl rfl
theorem dJ2_newCapacity_0 : decode cJ2_newCapacity 0 = .ok (.aload_n 0, 1) := dk_42 (dk_at dksJ2_newCapacity_0 0 rfl rfl)
theorem dJ2_newCapacity_1 : decode cJ2_newCapacity 1 = .ok (.getfield 15, 3) := dk_180 0 15 (dk_at dksJ2_newCapacity_0 1 rfl rfl)
theorem dJ2_newCapacity_4 : decode cJ2_newCapacity 4 = .ok (.arraylength, 1) := dk_190 (dk_at dksJ2_newCapacity_0 4 rfl rfl)
theorem dJ2_newCapacity_5 : decode cJ2_newCapacity 5 = .ok (.istore_n 2, 1) := dk_61 (dk_at dksJ2_newCapacity_0 5 rfl rfl)
theorem dJ2_newCapacity_6 : decode cJ2_newCapacity 6 = .ok (.iload_n 1, 1) := dk_27 (dk_at dksJ2_newCapacity_0 6 rfl rfl)
theorem dJ2_newCapacity_7 : decode cJ2_newCapacity 7 = .ok (.aload_n 0, 1) := dk_42 (dk_at dksJ2_newCapacity_0 7 rfl rfl)
theorem dJ2_newCapacity_8 : decode cJ2_newCapacity 8 = .ok (.getfield 22, 3) := dk_180 0 22 (dk_at dksJ2_newCapacity_0 8 rfl rfl)
theorem dJ2_newCapacity_11 : decode cJ2_newCapacity 11 = .ok (.ishl, 1) := dk_120 (dk_at dksJ2_newCapacity_0 11 rfl rfl)
theorem dJ2_newCapacity_12 : decode cJ2_newCapacity 12 = .ok (.istore_n 3, 1) := dk_62 (dk_at dksJ2_newCapacity_0 12 rfl rfl)
theorem dJ2_newCapacity_13 : decode cJ2_newCapacity 13 = .ok (.iload_n 3, 1) := dk_29 (dk_at dksJ2_newCapacity_0 13 rfl rfl)
theorem dJ2_newCapacity_14 : decode cJ2_newCapacity 14 = .ok (.iload_n 2, 1) := dk_28 (dk_at dksJ2_newCapacity_0 14 rfl rfl)
theorem dJ2_newCapacity_15 : decode cJ2_newCapacity 15 = .ok (.isub, 1) := dk_100 (dk_at dksJ2_newCapacity_0 15 rfl rfl)
theorem dJ2_newCapacity_16 : decode cJ2_newCapacity 16 = .ok (.istore 4, 2) := dk_54 4 (dk_at dksJ2_newCapacity_0 16 rfl rfl)
theorem dJ2_newCapacity_18 : decode cJ2_newCapacity 18 = .ok (.iload_n 2, 1) := dk_28 (dk_at dksJ2_newCapacity_0 18 rfl rfl)
theorem dJ2_newCapacity_19 : decode cJ2_newCapacity 19 = .ok (.iload 4, 2) := dk_21 4 (dk_at dksJ2_newCapacity_0 19 rfl rfl)
theorem dJ2_newCapacity_21 : decode cJ2_newCapacity 21 = .ok (.iload_n 2, 1) := dk_28 (dk_at dksJ2_newCapacity_0 21 rfl rfl)
theorem dJ2_newCapacity_22 : decode cJ2_newCapacity 22 = .ok (.iconst 2, 1) := dk_5 (dk_at dksJ2_newCapacity_0 22 rfl rfl)
theorem dJ2_newCapacity_23 : decode cJ2_newCapacity 23 = .ok (.aload_n 0, 1) := dk_42 (dk_at dksJ2_newCapacity_0 23 rfl rfl)
theorem dJ2_newCapacity_24 : decode cJ2_newCapacity 24 = .ok (.getfield 22, 3) := dk_180 0 22 (dk_at dksJ2_newCapacity_1 0 rfl rfl)
theorem dJ2_newCapacity_27 : decode cJ2_newCapacity 27 = .ok (.ishl, 1) := dk_120 (dk_at dksJ2_newCapacity_1 3 rfl rfl)
theorem dJ2_newCapacity_28 : decode cJ2_newCapacity 28 = .ok (.iadd, 1) := dk_96 (dk_at dksJ2_newCapacity_1 4 rfl rfl)
theorem dJ2_newCapacity_29 : decode cJ2_newCapacity 29 = .ok (.invokestatic 114, 3) := dk_184 0 114 (dk_at dksJ2_newCapacity_1 5 rfl rfl)
theorem dJ2_newCapacity_32 : decode cJ2_newCapacity 32 = .ok (.istore 5, 2) := dk_54 5 (dk_at dksJ2_newCapacity_1 8 rfl rfl)
theorem dJ2_newCapacity_34 : decode cJ2_newCapacity 34 = .ok (.iload 5, 2) := dk_21 5 (dk_at dksJ2_newCapacity_1 10 rfl rfl)
theorem dJ2_newCapacity_36 : decode cJ2_newCapacity 36 = .ok (.ldc 39, 2) := dk_18 39 (dk_at dksJ2_newCapacity_1 12 rfl rfl)
theorem dJ2_newCapacity_38 : decode cJ2_newCapacity 38 = .ok (.if_icmp .ne 13, 3) := dk_160 0 13 (dk_at dksJ2_newCapacity_1 14 rfl rfl)
theorem dJ2_newCapacity_41 : decode cJ2_newCapacity 41 = .ok (.new 120, 3) := dk_187 0 120 (dk_at dksJ2_newCapacity_1 17 rfl rfl)
theorem dJ2_newCapacity_44 : decode cJ2_newCapacity 44 = .ok (.dup, 1) := dk_89 (dk_at dksJ2_newCapacity_1 20 rfl rfl)
theorem dJ2_newCapacity_45 : decode cJ2_newCapacity 45 = .ok (.ldc 122, 2) := dk_18 122 (dk_at dksJ2_newCapacity_1 21 rfl rfl)
theorem dJ2_newCapacity_47 : decode cJ2_newCapacity 47 = .ok (.invokespecial 124, 3) := dk_183 0 124 (dk_at dksJ2_newCapacity_2 0 rfl rfl)
theorem dJ2_newCapacity_50 : decode cJ2_newCapacity 50 = .ok (.athrow, 1) := dk_191 (dk_at dksJ2_newCapacity_2 3 rfl rfl)
theorem dJ2_newCapacity_51 : decode cJ2_newCapacity 51 = .ok (.iload 5, 2) := dk_21 5 (dk_at dksJ2_newCapacity_2 4 rfl rfl)
theorem dJ2_newCapacity_53 : decode cJ2_newCapacity 53 = .ok (.aload_n 0, 1) := dk_42 (dk_at dksJ2_newCapacity_2 6 rfl rfl)
theorem dJ2_newCapacity_54 : decode cJ2_newCapacity 54 = .ok (.getfield 22, 3) := dk_180 0 22 (dk_at dksJ2_newCapacity_2 7 rfl rfl)
theorem dJ2_newCapacity_57 : decode cJ2_newCapacity 57 = .ok (.ishr, 1) := dk_122 (dk_at dksJ2_newCapacity_2 10 rfl rfl)
theorem dJ2_newCapacity_58 : decode cJ2_newCapacity 58 = .ok (.ireturn, 1) := dk_172 (dk_at dksJ2_newCapacity_2 11 rfl rfl)
abbrev cJ2_isLatin1 : ByteArray := prog_13_method_68_code
def yJ2_isLatin1 : MethodName := ⟨RJ2, "isLatin1", "()Z"⟩
def dkwJ2_isLatin1_0 : List UInt8 := [178, 0, 18, 153, 0, 14, 42, 180, 0, 22, 154, 0, 7, 4, 167, 0, 4, 3, 172]
abbrev dktJ2_isLatin1_0 : List UInt8 := dkwJ2_isLatin1_0 ++ []
theorem dksJ2_isLatin1_0 : cJ2_isLatin1.data.toList.drop 0 = dktJ2_isLatin1_0 := by decide +kernel
theorem dJ2_isLatin1_0 : decode cJ2_isLatin1 0 = .ok (.getstatic 18, 3) := dk_178 0 18 (dk_at dksJ2_isLatin1_0 0 rfl rfl)
theorem dJ2_isLatin1_3 : decode cJ2_isLatin1 3 = .ok (.ifCond .eq 14, 3) := dk_153 0 14 (dk_at dksJ2_isLatin1_0 3 rfl rfl)
theorem dJ2_isLatin1_6 : decode cJ2_isLatin1 6 = .ok (.aload_n 0, 1) := dk_42 (dk_at dksJ2_isLatin1_0 6 rfl rfl)
theorem dJ2_isLatin1_7 : decode cJ2_isLatin1 7 = .ok (.getfield 22, 3) := dk_180 0 22 (dk_at dksJ2_isLatin1_0 7 rfl rfl)
theorem dJ2_isLatin1_10 : decode cJ2_isLatin1 10 = .ok (.ifCond .ne 7, 3) := dk_154 0 7 (dk_at dksJ2_isLatin1_0 10 rfl rfl)
theorem dJ2_isLatin1_13 : decode cJ2_isLatin1 13 = .ok (.iconst 1, 1) := dk_4 (dk_at dksJ2_isLatin1_0 13 rfl rfl)
theorem dJ2_isLatin1_14 : decode cJ2_isLatin1 14 = .ok (.goto 4, 3) := dk_167 0 4 (dk_at dksJ2_isLatin1_0 14 rfl rfl)
theorem dJ2_isLatin1_17 : decode cJ2_isLatin1 17 = .ok (.iconst 0, 1) := dk_3 (dk_at dksJ2_isLatin1_0 17 rfl rfl)
theorem dJ2_isLatin1_18 : decode cJ2_isLatin1 18 = .ok (.ireturn, 1) := dk_172 (dk_at dksJ2_isLatin1_0 18 rfl rfl)
abbrev cJ2_append_2 : ByteArray := prog_13_method_22_code
def yJ2_append_2 : MethodName := ⟨RJ2, "append", "(Ljava/lang/String;)Ljava/lang/AbstractStringBuilder;"⟩
def dkwJ2_append_2_1 : List UInt8 := [42, 42, 180, 0, 79, 43, 182, 0, 208, 42, 89, 180, 0, 79, 28, 96, 181, 0, 79, 42, 176]
abbrev dktJ2_append_2_1 : List UInt8 := dkwJ2_append_2_1 ++ []
def dkwJ2_append_2_0 : List UInt8 := [43, 199, 0, 8, 42, 182, 0, 204, 176, 43, 182, 0, 32, 61, 42, 42, 180, 0, 79, 28, 96, 182, 0, 100]
abbrev dktJ2_append_2_0 : List UInt8 := dkwJ2_append_2_0 ++ dktJ2_append_2_1
theorem dksJ2_append_2_0 : cJ2_append_2.data.toList.drop 0 = dktJ2_append_2_0 := by decide +kernel
theorem dksJ2_append_2_1 : cJ2_append_2.data.toList.drop 24 = dktJ2_append_2_1 := dk_seg dksJ2_append_2_0 24 rfl rfl
theorem dJ2_append_2_0 : decode cJ2_append_2 0 = .ok (.aload_n 1, 1) := dk_43 (dk_at dksJ2_append_2_0 0 rfl rfl)
theorem dJ2_append_2_1 : decode cJ2_append_2 1 = .ok (.ifnonnull 8, 3) := dk_199 0 8 (dk_at dksJ2_append_2_0 1 rfl rfl)
theorem dJ2_append_2_4 : decode cJ2_append_2 4 = .ok (.aload_n 0, 1) := dk_42 (dk_at dksJ2_append_2_0 4 rfl rfl)
theorem dJ2_append_2_5 : decode cJ2_append_2 5 = .ok (.invokevirtual 204, 3) := dk_182 0 204 (dk_at dksJ2_append_2_0 5 rfl rfl)
theorem dJ2_append_2_8 : decode cJ2_append_2 8 = .ok (.areturn, 1) := dk_176 (dk_at dksJ2_append_2_0 8 rfl rfl)
theorem dJ2_append_2_9 : decode cJ2_append_2 9 = .ok (.aload_n 1, 1) := dk_43 (dk_at dksJ2_append_2_0 9 rfl rfl)
theorem dJ2_append_2_10 : decode cJ2_append_2 10 = .ok (.invokevirtual 32, 3) := dk_182 0 32 (dk_at dksJ2_append_2_0 10 rfl rfl)
theorem dJ2_append_2_13 : decode cJ2_append_2 13 = .ok (.istore_n 2, 1) := dk_61 (dk_at dksJ2_append_2_0 13 rfl rfl)
theorem dJ2_append_2_14 : decode cJ2_append_2 14 = .ok (.aload_n 0, 1) := dk_42 (dk_at dksJ2_append_2_0 14 rfl rfl)
theorem dJ2_append_2_15 : decode cJ2_append_2 15 = .ok (.aload_n 0, 1) := dk_42 (dk_at dksJ2_append_2_0 15 rfl rfl)
theorem dJ2_append_2_16 : decode cJ2_append_2 16 = .ok (.getfield 79, 3) := dk_180 0 79 (dk_at dksJ2_append_2_0 16 rfl rfl)
theorem dJ2_append_2_19 : decode cJ2_append_2 19 = .ok (.iload_n 2, 1) := dk_28 (dk_at dksJ2_append_2_0 19 rfl rfl)
theorem dJ2_append_2_20 : decode cJ2_append_2 20 = .ok (.iadd, 1) := dk_96 (dk_at dksJ2_append_2_0 20 rfl rfl)
theorem dJ2_append_2_21 : decode cJ2_append_2 21 = .ok (.invokevirtual 100, 3) := dk_182 0 100 (dk_at dksJ2_append_2_0 21 rfl rfl)
theorem dJ2_append_2_24 : decode cJ2_append_2 24 = .ok (.aload_n 0, 1) := dk_42 (dk_at dksJ2_append_2_1 0 rfl rfl)
theorem dJ2_append_2_25 : decode cJ2_append_2 25 = .ok (.aload_n 0, 1) := dk_42 (dk_at dksJ2_append_2_1 1 rfl rfl)
theorem dJ2_append_2_26 : decode cJ2_append_2 26 = .ok (.getfield 79, 3) := dk_180 0 79 (dk_at dksJ2_append_2_1 2 rfl rfl)
theorem dJ2_append_2_29 : decode cJ2_append_2 29 = .ok (.aload_n 1, 1) := dk_43 (dk_at dksJ2_append_2_1 5 rfl rfl)
theorem dJ2_append_2_30 : decode cJ2_append_2 30 = .ok (.invokevirtual 208, 3) := dk_182 0 208 (dk_at dksJ2_append_2_1 6 rfl rfl)
theorem dJ2_append_2_33 : decode cJ2_append_2 33 = .ok (.aload_n 0, 1) := dk_42 (dk_at dksJ2_append_2_1 9 rfl rfl)
theorem dJ2_append_2_34 : decode cJ2_append_2 34 = .ok (.dup, 1) := dk_89 (dk_at dksJ2_append_2_1 10 rfl rfl)
theorem dJ2_append_2_35 : decode cJ2_append_2 35 = .ok (.getfield 79, 3) := dk_180 0 79 (dk_at dksJ2_append_2_1 11 rfl rfl)
theorem dJ2_append_2_38 : decode cJ2_append_2 38 = .ok (.iload_n 2, 1) := dk_28 (dk_at dksJ2_append_2_1 14 rfl rfl)
theorem dJ2_append_2_39 : decode cJ2_append_2 39 = .ok (.iadd, 1) := dk_96 (dk_at dksJ2_append_2_1 15 rfl rfl)
theorem dJ2_append_2_40 : decode cJ2_append_2 40 = .ok (.putfield 79, 3) := dk_181 0 79 (dk_at dksJ2_append_2_1 16 rfl rfl)
theorem dJ2_append_2_43 : decode cJ2_append_2 43 = .ok (.aload_n 0, 1) := dk_42 (dk_at dksJ2_append_2_1 19 rfl rfl)
theorem dJ2_append_2_44 : decode cJ2_append_2 44 = .ok (.areturn, 1) := dk_176 (dk_at dksJ2_append_2_1 20 rfl rfl)
abbrev cJ2_appendNull : ByteArray := prog_13_method_26_code
def yJ2_appendNull : MethodName := ⟨RJ2, "appendNull", "()Ljava/lang/AbstractStringBuilder;"⟩
def dkwJ2_appendNull_3 : List UInt8 := [184, 0, 226, 60, 42, 27, 181, 0, 79, 42, 176]
abbrev dktJ2_appendNull_3 : List UInt8 := dkwJ2_appendNull_3 ++ []
def dkwJ2_appendNull_2 : List UInt8 := [16, 108, 84, 44, 27, 132, 1, 1, 16, 108, 84, 167, 0, 17, 44, 27, 16, 110, 16, 117, 16, 108, 16, 108]
abbrev dktJ2_appendNull_2 : List UInt8 := dkwJ2_appendNull_2 ++ dktJ2_appendNull_3
def dkwJ2_appendNull_1 : List UInt8 := [153, 0, 38, 44, 27, 132, 1, 1, 16, 110, 84, 44, 27, 132, 1, 1, 16, 117, 84, 44, 27, 132, 1, 1]
abbrev dktJ2_appendNull_1 : List UInt8 := dkwJ2_appendNull_1 ++ dktJ2_appendNull_2
def dkwJ2_appendNull_0 : List UInt8 := [42, 42, 180, 0, 79, 7, 96, 182, 0, 100, 42, 180, 0, 79, 60, 42, 180, 0, 15, 77, 42, 182, 0, 83]
abbrev dktJ2_appendNull_0 : List UInt8 := dkwJ2_appendNull_0 ++ dktJ2_appendNull_1
theorem dksJ2_appendNull_0 : cJ2_appendNull.data.toList.drop 0 = dktJ2_appendNull_0 := by decide +kernel
theorem dksJ2_appendNull_1 : cJ2_appendNull.data.toList.drop 24 = dktJ2_appendNull_1 := dk_seg dksJ2_appendNull_0 24 rfl rfl
theorem dksJ2_appendNull_2 : cJ2_appendNull.data.toList.drop 48 = dktJ2_appendNull_2 := dk_seg dksJ2_appendNull_1 24 rfl rfl
theorem dksJ2_appendNull_3 : cJ2_appendNull.data.toList.drop 72 = dktJ2_appendNull_3 := dk_seg dksJ2_appendNull_2 24 rfl rfl
theorem dJ2_appendNull_0 : decode cJ2_appendNull 0 = .ok (.aload_n 0, 1) := dk_42 (dk_at dksJ2_appendNull_0 0 rfl rfl)
theorem dJ2_appendNull_1 : decode cJ2_appendNull 1 = .ok (.aload_n 0, 1) := dk_42 (dk_at dksJ2_appendNull_0 1 rfl rfl)
theorem dJ2_appendNull_2 : decode cJ2_appendNull 2 = .ok (.getfield 79, 3) := dk_180 0 79 (dk_at dksJ2_appendNull_0 2 rfl rfl)
theorem dJ2_appendNull_5 : decode cJ2_appendNull 5 = .ok (.iconst 4, 1) := dk_7 (dk_at dksJ2_appendNull_0 5 rfl rfl)
theorem dJ2_appendNull_6 : decode cJ2_appendNull 6 = .ok (.iadd, 1) := dk_96 (dk_at dksJ2_appendNull_0 6 rfl rfl)
theorem dJ2_appendNull_7 : decode cJ2_appendNull 7 = .ok (.invokevirtual 100, 3) := dk_182 0 100 (dk_at dksJ2_appendNull_0 7 rfl rfl)
theorem dJ2_appendNull_10 : decode cJ2_appendNull 10 = .ok (.aload_n 0, 1) := dk_42 (dk_at dksJ2_appendNull_0 10 rfl rfl)
theorem dJ2_appendNull_11 : decode cJ2_appendNull 11 = .ok (.getfield 79, 3) := dk_180 0 79 (dk_at dksJ2_appendNull_0 11 rfl rfl)
theorem dJ2_appendNull_14 : decode cJ2_appendNull 14 = .ok (.istore_n 1, 1) := dk_60 (dk_at dksJ2_appendNull_0 14 rfl rfl)
theorem dJ2_appendNull_15 : decode cJ2_appendNull 15 = .ok (.aload_n 0, 1) := dk_42 (dk_at dksJ2_appendNull_0 15 rfl rfl)
theorem dJ2_appendNull_16 : decode cJ2_appendNull 16 = .ok (.getfield 15, 3) := dk_180 0 15 (dk_at dksJ2_appendNull_0 16 rfl rfl)
theorem dJ2_appendNull_19 : decode cJ2_appendNull 19 = .ok (.astore_n 2, 1) := dk_77 (dk_at dksJ2_appendNull_0 19 rfl rfl)
theorem dJ2_appendNull_20 : decode cJ2_appendNull 20 = .ok (.aload_n 0, 1) := dk_42 (dk_at dksJ2_appendNull_0 20 rfl rfl)
theorem dJ2_appendNull_21 : decode cJ2_appendNull 21 = .ok (.invokevirtual 83, 3) := dk_182 0 83 (dk_at dksJ2_appendNull_0 21 rfl rfl)
theorem dJ2_appendNull_24 : decode cJ2_appendNull 24 = .ok (.ifCond .eq 38, 3) := dk_153 0 38 (dk_at dksJ2_appendNull_1 0 rfl rfl)
theorem dJ2_appendNull_27 : decode cJ2_appendNull 27 = .ok (.aload_n 2, 1) := dk_44 (dk_at dksJ2_appendNull_1 3 rfl rfl)
theorem dJ2_appendNull_28 : decode cJ2_appendNull 28 = .ok (.iload_n 1, 1) := dk_27 (dk_at dksJ2_appendNull_1 4 rfl rfl)
theorem dJ2_appendNull_29 : decode cJ2_appendNull 29 = .ok (.iinc 1 1, 3) := dk_132 1 1 (dk_at dksJ2_appendNull_1 5 rfl rfl)
theorem dJ2_appendNull_32 : decode cJ2_appendNull 32 = .ok (.bipush 110, 2) := dk_16 110 (dk_at dksJ2_appendNull_1 8 rfl rfl)
theorem dJ2_appendNull_34 : decode cJ2_appendNull 34 = .ok (.bastore, 1) := dk_84 (dk_at dksJ2_appendNull_1 10 rfl rfl)
theorem dJ2_appendNull_35 : decode cJ2_appendNull 35 = .ok (.aload_n 2, 1) := dk_44 (dk_at dksJ2_appendNull_1 11 rfl rfl)
theorem dJ2_appendNull_36 : decode cJ2_appendNull 36 = .ok (.iload_n 1, 1) := dk_27 (dk_at dksJ2_appendNull_1 12 rfl rfl)
theorem dJ2_appendNull_37 : decode cJ2_appendNull 37 = .ok (.iinc 1 1, 3) := dk_132 1 1 (dk_at dksJ2_appendNull_1 13 rfl rfl)
theorem dJ2_appendNull_40 : decode cJ2_appendNull 40 = .ok (.bipush 117, 2) := dk_16 117 (dk_at dksJ2_appendNull_1 16 rfl rfl)
theorem dJ2_appendNull_42 : decode cJ2_appendNull 42 = .ok (.bastore, 1) := dk_84 (dk_at dksJ2_appendNull_1 18 rfl rfl)
theorem dJ2_appendNull_43 : decode cJ2_appendNull 43 = .ok (.aload_n 2, 1) := dk_44 (dk_at dksJ2_appendNull_1 19 rfl rfl)
theorem dJ2_appendNull_44 : decode cJ2_appendNull 44 = .ok (.iload_n 1, 1) := dk_27 (dk_at dksJ2_appendNull_1 20 rfl rfl)
theorem dJ2_appendNull_45 : decode cJ2_appendNull 45 = .ok (.iinc 1 1, 3) := dk_132 1 1 (dk_at dksJ2_appendNull_1 21 rfl rfl)
theorem dJ2_appendNull_48 : decode cJ2_appendNull 48 = .ok (.bipush 108, 2) := dk_16 108 (dk_at dksJ2_appendNull_2 0 rfl rfl)
theorem dJ2_appendNull_50 : decode cJ2_appendNull 50 = .ok (.bastore, 1) := dk_84 (dk_at dksJ2_appendNull_2 2 rfl rfl)
theorem dJ2_appendNull_51 : decode cJ2_appendNull 51 = .ok (.aload_n 2, 1) := dk_44 (dk_at dksJ2_appendNull_2 3 rfl rfl)
theorem dJ2_appendNull_52 : decode cJ2_appendNull 52 = .ok (.iload_n 1, 1) := dk_27 (dk_at dksJ2_appendNull_2 4 rfl rfl)
theorem dJ2_appendNull_53 : decode cJ2_appendNull 53 = .ok (.iinc 1 1, 3) := dk_132 1 1 (dk_at dksJ2_appendNull_2 5 rfl rfl)
theorem dJ2_appendNull_56 : decode cJ2_appendNull 56 = .ok (.bipush 108, 2) := dk_16 108 (dk_at dksJ2_appendNull_2 8 rfl rfl)
theorem dJ2_appendNull_58 : decode cJ2_appendNull 58 = .ok (.bastore, 1) := dk_84 (dk_at dksJ2_appendNull_2 10 rfl rfl)
theorem dJ2_appendNull_59 : decode cJ2_appendNull 59 = .ok (.goto 17, 3) := dk_167 0 17 (dk_at dksJ2_appendNull_2 11 rfl rfl)
theorem dJ2_appendNull_62 : decode cJ2_appendNull 62 = .ok (.aload_n 2, 1) := dk_44 (dk_at dksJ2_appendNull_2 14 rfl rfl)
theorem dJ2_appendNull_63 : decode cJ2_appendNull 63 = .ok (.iload_n 1, 1) := dk_27 (dk_at dksJ2_appendNull_2 15 rfl rfl)
theorem dJ2_appendNull_64 : decode cJ2_appendNull 64 = .ok (.bipush 110, 2) := dk_16 110 (dk_at dksJ2_appendNull_2 16 rfl rfl)
theorem dJ2_appendNull_66 : decode cJ2_appendNull 66 = .ok (.bipush 117, 2) := dk_16 117 (dk_at dksJ2_appendNull_2 18 rfl rfl)
theorem dJ2_appendNull_68 : decode cJ2_appendNull 68 = .ok (.bipush 108, 2) := dk_16 108 (dk_at dksJ2_appendNull_2 20 rfl rfl)
theorem dJ2_appendNull_70 : decode cJ2_appendNull 70 = .ok (.bipush 108, 2) := dk_16 108 (dk_at dksJ2_appendNull_2 22 rfl rfl)
theorem dJ2_appendNull_72 : decode cJ2_appendNull 72 = .ok (.invokestatic 226, 3) := dk_184 0 226 (dk_at dksJ2_appendNull_3 0 rfl rfl)
theorem dJ2_appendNull_75 : decode cJ2_appendNull 75 = .ok (.istore_n 1, 1) := dk_60 (dk_at dksJ2_appendNull_3 3 rfl rfl)
theorem dJ2_appendNull_76 : decode cJ2_appendNull 76 = .ok (.aload_n 0, 1) := dk_42 (dk_at dksJ2_appendNull_3 4 rfl rfl)
theorem dJ2_appendNull_77 : decode cJ2_appendNull 77 = .ok (.iload_n 1, 1) := dk_27 (dk_at dksJ2_appendNull_3 5 rfl rfl)
theorem dJ2_appendNull_78 : decode cJ2_appendNull 78 = .ok (.putfield 79, 3) := dk_181 0 79 (dk_at dksJ2_appendNull_3 6 rfl rfl)
theorem dJ2_appendNull_81 : decode cJ2_appendNull 81 = .ok (.aload_n 0, 1) := dk_42 (dk_at dksJ2_appendNull_3 9 rfl rfl)
theorem dJ2_appendNull_82 : decode cJ2_appendNull 82 = .ok (.areturn, 1) := dk_176 (dk_at dksJ2_appendNull_3 10 rfl rfl)
abbrev cJ2_putStringAt : ByteArray := prog_13_method_73_code
def yJ2_putStringAt : MethodName := ⟨RJ2, "putStringAt", "(ILjava/lang/String;)V"⟩
def dkwJ2_putStringAt_0 : List UInt8 := [42, 44, 182, 1, 141, 44, 42, 180, 0, 15, 27, 42, 180, 0, 22, 182, 1, 143, 177]
abbrev dktJ2_putStringAt_0 : List UInt8 := dkwJ2_putStringAt_0 ++ []
theorem dksJ2_putStringAt_0 : cJ2_putStringAt.data.toList.drop 0 = dktJ2_putStringAt_0 := by decide +kernel
theorem dJ2_putStringAt_0 : decode cJ2_putStringAt 0 = .ok (.aload_n 0, 1) := dk_42 (dk_at dksJ2_putStringAt_0 0 rfl rfl)
theorem dJ2_putStringAt_1 : decode cJ2_putStringAt 1 = .ok (.aload_n 2, 1) := dk_44 (dk_at dksJ2_putStringAt_0 1 rfl rfl)
theorem dJ2_putStringAt_2 : decode cJ2_putStringAt 2 = .ok (.invokevirtual 397, 3) := dk_182 1 141 (dk_at dksJ2_putStringAt_0 2 rfl rfl)
theorem dJ2_putStringAt_5 : decode cJ2_putStringAt 5 = .ok (.aload_n 2, 1) := dk_44 (dk_at dksJ2_putStringAt_0 5 rfl rfl)
theorem dJ2_putStringAt_6 : decode cJ2_putStringAt 6 = .ok (.aload_n 0, 1) := dk_42 (dk_at dksJ2_putStringAt_0 6 rfl rfl)
theorem dJ2_putStringAt_7 : decode cJ2_putStringAt 7 = .ok (.getfield 15, 3) := dk_180 0 15 (dk_at dksJ2_putStringAt_0 7 rfl rfl)
theorem dJ2_putStringAt_10 : decode cJ2_putStringAt 10 = .ok (.iload_n 1, 1) := dk_27 (dk_at dksJ2_putStringAt_0 10 rfl rfl)
theorem dJ2_putStringAt_11 : decode cJ2_putStringAt 11 = .ok (.aload_n 0, 1) := dk_42 (dk_at dksJ2_putStringAt_0 11 rfl rfl)
theorem dJ2_putStringAt_12 : decode cJ2_putStringAt 12 = .ok (.getfield 22, 3) := dk_180 0 22 (dk_at dksJ2_putStringAt_0 12 rfl rfl)
theorem dJ2_putStringAt_15 : decode cJ2_putStringAt 15 = .ok (.invokevirtual 399, 3) := dk_182 1 143 (dk_at dksJ2_putStringAt_0 15 rfl rfl)
theorem dJ2_putStringAt_18 : decode cJ2_putStringAt 18 = .ok (.return_, 1) := dk_177 (dk_at dksJ2_putStringAt_0 18 rfl rfl)
abbrev cJ2_inflateIfNeededFor : ByteArray := prog_13_method_71_code
def yJ2_inflateIfNeededFor : MethodName := ⟨RJ2, "inflateIfNeededFor", "(Ljava/lang/String;)V"⟩
def dkwJ2_inflateIfNeededFor_0 : List UInt8 := [178, 0, 18, 153, 0, 18, 42, 180, 0, 22, 43, 182, 0, 40, 159, 0, 7, 42, 182, 0, 195, 177]
abbrev dktJ2_inflateIfNeededFor_0 : List UInt8 := dkwJ2_inflateIfNeededFor_0 ++ []
theorem dksJ2_inflateIfNeededFor_0 : cJ2_inflateIfNeededFor.data.toList.drop 0 = dktJ2_inflateIfNeededFor_0 := by decide +kernel
theorem dJ2_inflateIfNeededFor_0 : decode cJ2_inflateIfNeededFor 0 = .ok (.getstatic 18, 3) := dk_178 0 18 (dk_at dksJ2_inflateIfNeededFor_0 0 rfl rfl)
theorem dJ2_inflateIfNeededFor_3 : decode cJ2_inflateIfNeededFor 3 = .ok (.ifCond .eq 18, 3) := dk_153 0 18 (dk_at dksJ2_inflateIfNeededFor_0 3 rfl rfl)
theorem dJ2_inflateIfNeededFor_6 : decode cJ2_inflateIfNeededFor 6 = .ok (.aload_n 0, 1) := dk_42 (dk_at dksJ2_inflateIfNeededFor_0 6 rfl rfl)
theorem dJ2_inflateIfNeededFor_7 : decode cJ2_inflateIfNeededFor 7 = .ok (.getfield 22, 3) := dk_180 0 22 (dk_at dksJ2_inflateIfNeededFor_0 7 rfl rfl)
theorem dJ2_inflateIfNeededFor_10 : decode cJ2_inflateIfNeededFor 10 = .ok (.aload_n 1, 1) := dk_43 (dk_at dksJ2_inflateIfNeededFor_0 10 rfl rfl)
theorem dJ2_inflateIfNeededFor_11 : decode cJ2_inflateIfNeededFor 11 = .ok (.invokevirtual 40, 3) := dk_182 0 40 (dk_at dksJ2_inflateIfNeededFor_0 11 rfl rfl)
theorem dJ2_inflateIfNeededFor_14 : decode cJ2_inflateIfNeededFor 14 = .ok (.if_icmp .eq 7, 3) := dk_159 0 7 (dk_at dksJ2_inflateIfNeededFor_0 14 rfl rfl)
theorem dJ2_inflateIfNeededFor_17 : decode cJ2_inflateIfNeededFor 17 = .ok (.aload_n 0, 1) := dk_42 (dk_at dksJ2_inflateIfNeededFor_0 17 rfl rfl)
theorem dJ2_inflateIfNeededFor_18 : decode cJ2_inflateIfNeededFor 18 = .ok (.invokevirtual 195, 3) := dk_182 0 195 (dk_at dksJ2_inflateIfNeededFor_0 18 rfl rfl)
theorem dJ2_inflateIfNeededFor_21 : decode cJ2_inflateIfNeededFor 21 = .ok (.return_, 1) := dk_177 (dk_at dksJ2_inflateIfNeededFor_0 21 rfl rfl)
abbrev cJ2_inflate : ByteArray := prog_13_method_11_code
def yJ2_inflate : MethodName := ⟨RJ2, "inflate", "()V"⟩
def dkwJ2_inflate_1 : List UInt8 := [42, 180, 0, 79, 184, 0, 125, 42, 43, 181, 0, 15, 42, 4, 181, 0, 22, 177]
abbrev dktJ2_inflate_1 : List UInt8 := dkwJ2_inflate_1 ++ []
def dkwJ2_inflate_0 : List UInt8 := [42, 182, 0, 83, 154, 0, 4, 177, 42, 180, 0, 15, 190, 184, 0, 26, 76, 42, 180, 0, 15, 3, 43, 3]
abbrev dktJ2_inflate_0 : List UInt8 := dkwJ2_inflate_0 ++ dktJ2_inflate_1
theorem dksJ2_inflate_0 : cJ2_inflate.data.toList.drop 0 = dktJ2_inflate_0 := by decide +kernel
theorem dksJ2_inflate_1 : cJ2_inflate.data.toList.drop 24 = dktJ2_inflate_1 := dk_seg dksJ2_inflate_0 24 rfl rfl
theorem dJ2_inflate_0 : decode cJ2_inflate 0 = .ok (.aload_n 0, 1) := dk_42 (dk_at dksJ2_inflate_0 0 rfl rfl)
theorem dJ2_inflate_1 : decode cJ2_inflate 1 = .ok (.invokevirtual 83, 3) := dk_182 0 83 (dk_at dksJ2_inflate_0 1 rfl rfl)
theorem dJ2_inflate_4 : decode cJ2_inflate 4 = .ok (.ifCond .ne 4, 3) := dk_154 0 4 (dk_at dksJ2_inflate_0 4 rfl rfl)
theorem dJ2_inflate_7 : decode cJ2_inflate 7 = .ok (.return_, 1) := dk_177 (dk_at dksJ2_inflate_0 7 rfl rfl)
theorem dJ2_inflate_8 : decode cJ2_inflate 8 = .ok (.aload_n 0, 1) := dk_42 (dk_at dksJ2_inflate_0 8 rfl rfl)
theorem dJ2_inflate_9 : decode cJ2_inflate 9 = .ok (.getfield 15, 3) := dk_180 0 15 (dk_at dksJ2_inflate_0 9 rfl rfl)
theorem dJ2_inflate_12 : decode cJ2_inflate 12 = .ok (.arraylength, 1) := dk_190 (dk_at dksJ2_inflate_0 12 rfl rfl)
theorem dJ2_inflate_13 : decode cJ2_inflate 13 = .ok (.invokestatic 26, 3) := dk_184 0 26 (dk_at dksJ2_inflate_0 13 rfl rfl)
theorem dJ2_inflate_16 : decode cJ2_inflate 16 = .ok (.astore_n 1, 1) := dk_76 (dk_at dksJ2_inflate_0 16 rfl rfl)
theorem dJ2_inflate_17 : decode cJ2_inflate 17 = .ok (.aload_n 0, 1) := dk_42 (dk_at dksJ2_inflate_0 17 rfl rfl)
theorem dJ2_inflate_18 : decode cJ2_inflate 18 = .ok (.getfield 15, 3) := dk_180 0 15 (dk_at dksJ2_inflate_0 18 rfl rfl)
theorem dJ2_inflate_21 : decode cJ2_inflate 21 = .ok (.iconst 0, 1) := dk_3 (dk_at dksJ2_inflate_0 21 rfl rfl)
theorem dJ2_inflate_22 : decode cJ2_inflate 22 = .ok (.aload_n 1, 1) := dk_43 (dk_at dksJ2_inflate_0 22 rfl rfl)
theorem dJ2_inflate_23 : decode cJ2_inflate 23 = .ok (.iconst 0, 1) := dk_3 (dk_at dksJ2_inflate_0 23 rfl rfl)
theorem dJ2_inflate_24 : decode cJ2_inflate 24 = .ok (.aload_n 0, 1) := dk_42 (dk_at dksJ2_inflate_1 0 rfl rfl)
theorem dJ2_inflate_25 : decode cJ2_inflate 25 = .ok (.getfield 79, 3) := dk_180 0 79 (dk_at dksJ2_inflate_1 1 rfl rfl)
theorem dJ2_inflate_28 : decode cJ2_inflate 28 = .ok (.invokestatic 125, 3) := dk_184 0 125 (dk_at dksJ2_inflate_1 4 rfl rfl)
theorem dJ2_inflate_31 : decode cJ2_inflate 31 = .ok (.aload_n 0, 1) := dk_42 (dk_at dksJ2_inflate_1 7 rfl rfl)
theorem dJ2_inflate_32 : decode cJ2_inflate 32 = .ok (.aload_n 1, 1) := dk_43 (dk_at dksJ2_inflate_1 8 rfl rfl)
theorem dJ2_inflate_33 : decode cJ2_inflate 33 = .ok (.putfield 15, 3) := dk_181 0 15 (dk_at dksJ2_inflate_1 9 rfl rfl)
theorem dJ2_inflate_36 : decode cJ2_inflate 36 = .ok (.aload_n 0, 1) := dk_42 (dk_at dksJ2_inflate_1 12 rfl rfl)
theorem dJ2_inflate_37 : decode cJ2_inflate 37 = .ok (.iconst 1, 1) := dk_4 (dk_at dksJ2_inflate_1 13 rfl rfl)
theorem dJ2_inflate_38 : decode cJ2_inflate 38 = .ok (.putfield 22, 3) := dk_181 0 22 (dk_at dksJ2_inflate_1 14 rfl rfl)
theorem dJ2_inflate_41 : decode cJ2_inflate 41 = .ok (.return_, 1) := dk_177 (dk_at dksJ2_inflate_1 17 rfl rfl)
abbrev cJ2_getValue : ByteArray := prog_13_method_64_code
def yJ2_getValue : MethodName := ⟨RJ2, "getValue", "()[B"⟩
theorem dJ2_getValue_0 : decode cJ2_getValue 0 = .ok (.aload_n 0, 1) := by decide +kernel
theorem dJ2_getValue_1 : decode cJ2_getValue 1 = .ok (.getfield 15, 3) := by decide +kernel
theorem dJ2_getValue_4 : decode cJ2_getValue 4 = .ok (.areturn, 1) := by decide +kernel
abbrev cJ2_length : ByteArray := prog_13_method_6_code
def yJ2_length : MethodName := ⟨RJ2, "length", "()I"⟩
theorem dJ2_length_0 : decode cJ2_length 0 = .ok (.aload_n 0, 1) := by decide +kernel
theorem dJ2_length_1 : decode cJ2_length 1 = .ok (.getfield 79, 3) := by decide +kernel
theorem dJ2_length_4 : decode cJ2_length 4 = .ok (.ireturn, 1) := by decide +kernel
abbrev cJ2_append_3 : ByteArray := prog_13_method_31_code
def yJ2_append_3 : MethodName := ⟨RJ2, "append", "(C)Ljava/lang/AbstractStringBuilder;"⟩
def dkwJ2_append_3_3 : List UInt8 := [181, 0, 79, 27, 184, 0, 197, 42, 176]
abbrev dktJ2_append_3_3 : List UInt8 := dkwJ2_append_3_3 ++ []
def dkwJ2_append_3_2 : List UInt8 := [182, 0, 83, 153, 0, 7, 42, 182, 0, 195, 42, 180, 0, 15, 42, 89, 180, 0, 79, 90, 4, 96]
abbrev dktJ2_append_3_2 : List UInt8 := dkwJ2_append_3_2 ++ dktJ2_append_3_3
def dkwJ2_append_3_1 : List UInt8 := [42, 180, 0, 15, 42, 89, 180, 0, 79, 90, 4, 96, 181, 0, 79, 27, 145, 84, 167, 0, 33, 42]
abbrev dktJ2_append_3_1 : List UInt8 := dkwJ2_append_3_1 ++ dktJ2_append_3_2
def dkwJ2_append_3_0 : List UInt8 := [42, 42, 180, 0, 79, 4, 96, 182, 0, 100, 42, 182, 0, 83, 153, 0, 31, 27, 184, 0, 191, 153, 0, 24]
abbrev dktJ2_append_3_0 : List UInt8 := dkwJ2_append_3_0 ++ dktJ2_append_3_1
theorem dksJ2_append_3_0 : cJ2_append_3.data.toList.drop 0 = dktJ2_append_3_0 := by decide +kernel
theorem dksJ2_append_3_1 : cJ2_append_3.data.toList.drop 24 = dktJ2_append_3_1 := dk_seg dksJ2_append_3_0 24 rfl rfl
theorem dksJ2_append_3_2 : cJ2_append_3.data.toList.drop 46 = dktJ2_append_3_2 := dk_seg dksJ2_append_3_1 22 rfl rfl
theorem dksJ2_append_3_3 : cJ2_append_3.data.toList.drop 68 = dktJ2_append_3_3 := dk_seg dksJ2_append_3_2 22 rfl rfl
theorem dJ2_append_3_0 : decode cJ2_append_3 0 = .ok (.aload_n 0, 1) := dk_42 (dk_at dksJ2_append_3_0 0 rfl rfl)
theorem dJ2_append_3_1 : decode cJ2_append_3 1 = .ok (.aload_n 0, 1) := dk_42 (dk_at dksJ2_append_3_0 1 rfl rfl)
theorem dJ2_append_3_2 : decode cJ2_append_3 2 = .ok (.getfield 79, 3) := dk_180 0 79 (dk_at dksJ2_append_3_0 2 rfl rfl)
theorem dJ2_append_3_5 : decode cJ2_append_3 5 = .ok (.iconst 1, 1) := dk_4 (dk_at dksJ2_append_3_0 5 rfl rfl)
theorem dJ2_append_3_6 : decode cJ2_append_3 6 = .ok (.iadd, 1) := dk_96 (dk_at dksJ2_append_3_0 6 rfl rfl)
theorem dJ2_append_3_7 : decode cJ2_append_3 7 = .ok (.invokevirtual 100, 3) := dk_182 0 100 (dk_at dksJ2_append_3_0 7 rfl rfl)
theorem dJ2_append_3_10 : decode cJ2_append_3 10 = .ok (.aload_n 0, 1) := dk_42 (dk_at dksJ2_append_3_0 10 rfl rfl)
theorem dJ2_append_3_11 : decode cJ2_append_3 11 = .ok (.invokevirtual 83, 3) := dk_182 0 83 (dk_at dksJ2_append_3_0 11 rfl rfl)
theorem dJ2_append_3_14 : decode cJ2_append_3 14 = .ok (.ifCond .eq 31, 3) := dk_153 0 31 (dk_at dksJ2_append_3_0 14 rfl rfl)
theorem dJ2_append_3_17 : decode cJ2_append_3 17 = .ok (.iload_n 1, 1) := dk_27 (dk_at dksJ2_append_3_0 17 rfl rfl)
theorem dJ2_append_3_18 : decode cJ2_append_3 18 = .ok (.invokestatic 191, 3) := dk_184 0 191 (dk_at dksJ2_append_3_0 18 rfl rfl)
theorem dJ2_append_3_21 : decode cJ2_append_3 21 = .ok (.ifCond .eq 24, 3) := dk_153 0 24 (dk_at dksJ2_append_3_0 21 rfl rfl)
theorem dJ2_append_3_24 : decode cJ2_append_3 24 = .ok (.aload_n 0, 1) := dk_42 (dk_at dksJ2_append_3_1 0 rfl rfl)
theorem dJ2_append_3_25 : decode cJ2_append_3 25 = .ok (.getfield 15, 3) := dk_180 0 15 (dk_at dksJ2_append_3_1 1 rfl rfl)
theorem dJ2_append_3_28 : decode cJ2_append_3 28 = .ok (.aload_n 0, 1) := dk_42 (dk_at dksJ2_append_3_1 4 rfl rfl)
theorem dJ2_append_3_29 : decode cJ2_append_3 29 = .ok (.dup, 1) := dk_89 (dk_at dksJ2_append_3_1 5 rfl rfl)
theorem dJ2_append_3_30 : decode cJ2_append_3 30 = .ok (.getfield 79, 3) := dk_180 0 79 (dk_at dksJ2_append_3_1 6 rfl rfl)
theorem dJ2_append_3_33 : decode cJ2_append_3 33 = .ok (.dup_x1, 1) := dk_90 (dk_at dksJ2_append_3_1 9 rfl rfl)
theorem dJ2_append_3_34 : decode cJ2_append_3 34 = .ok (.iconst 1, 1) := dk_4 (dk_at dksJ2_append_3_1 10 rfl rfl)
theorem dJ2_append_3_35 : decode cJ2_append_3 35 = .ok (.iadd, 1) := dk_96 (dk_at dksJ2_append_3_1 11 rfl rfl)
theorem dJ2_append_3_36 : decode cJ2_append_3 36 = .ok (.putfield 79, 3) := dk_181 0 79 (dk_at dksJ2_append_3_1 12 rfl rfl)
theorem dJ2_append_3_39 : decode cJ2_append_3 39 = .ok (.iload_n 1, 1) := dk_27 (dk_at dksJ2_append_3_1 15 rfl rfl)
theorem dJ2_append_3_40 : decode cJ2_append_3 40 = .ok (.i2b, 1) := dk_145 (dk_at dksJ2_append_3_1 16 rfl rfl)
theorem dJ2_append_3_41 : decode cJ2_append_3 41 = .ok (.bastore, 1) := dk_84 (dk_at dksJ2_append_3_1 17 rfl rfl)
theorem dJ2_append_3_42 : decode cJ2_append_3 42 = .ok (.goto 33, 3) := dk_167 0 33 (dk_at dksJ2_append_3_1 18 rfl rfl)
theorem dJ2_append_3_45 : decode cJ2_append_3 45 = .ok (.aload_n 0, 1) := dk_42 (dk_at dksJ2_append_3_1 21 rfl rfl)
theorem dJ2_append_3_46 : decode cJ2_append_3 46 = .ok (.invokevirtual 83, 3) := dk_182 0 83 (dk_at dksJ2_append_3_2 0 rfl rfl)
theorem dJ2_append_3_49 : decode cJ2_append_3 49 = .ok (.ifCond .eq 7, 3) := dk_153 0 7 (dk_at dksJ2_append_3_2 3 rfl rfl)
theorem dJ2_append_3_52 : decode cJ2_append_3 52 = .ok (.aload_n 0, 1) := dk_42 (dk_at dksJ2_append_3_2 6 rfl rfl)
theorem dJ2_append_3_53 : decode cJ2_append_3 53 = .ok (.invokevirtual 195, 3) := dk_182 0 195 (dk_at dksJ2_append_3_2 7 rfl rfl)
theorem dJ2_append_3_56 : decode cJ2_append_3 56 = .ok (.aload_n 0, 1) := dk_42 (dk_at dksJ2_append_3_2 10 rfl rfl)
theorem dJ2_append_3_57 : decode cJ2_append_3 57 = .ok (.getfield 15, 3) := dk_180 0 15 (dk_at dksJ2_append_3_2 11 rfl rfl)
theorem dJ2_append_3_60 : decode cJ2_append_3 60 = .ok (.aload_n 0, 1) := dk_42 (dk_at dksJ2_append_3_2 14 rfl rfl)
theorem dJ2_append_3_61 : decode cJ2_append_3 61 = .ok (.dup, 1) := dk_89 (dk_at dksJ2_append_3_2 15 rfl rfl)
theorem dJ2_append_3_62 : decode cJ2_append_3 62 = .ok (.getfield 79, 3) := dk_180 0 79 (dk_at dksJ2_append_3_2 16 rfl rfl)
theorem dJ2_append_3_65 : decode cJ2_append_3 65 = .ok (.dup_x1, 1) := dk_90 (dk_at dksJ2_append_3_2 19 rfl rfl)
theorem dJ2_append_3_66 : decode cJ2_append_3 66 = .ok (.iconst 1, 1) := dk_4 (dk_at dksJ2_append_3_2 20 rfl rfl)
theorem dJ2_append_3_67 : decode cJ2_append_3 67 = .ok (.iadd, 1) := dk_96 (dk_at dksJ2_append_3_2 21 rfl rfl)
theorem dJ2_append_3_68 : decode cJ2_append_3 68 = .ok (.putfield 79, 3) := dk_181 0 79 (dk_at dksJ2_append_3_3 0 rfl rfl)
theorem dJ2_append_3_71 : decode cJ2_append_3 71 = .ok (.iload_n 1, 1) := dk_27 (dk_at dksJ2_append_3_3 3 rfl rfl)
theorem dJ2_append_3_72 : decode cJ2_append_3 72 = .ok (.invokestatic 197, 3) := dk_184 0 197 (dk_at dksJ2_append_3_3 4 rfl rfl)
theorem dJ2_append_3_75 : decode cJ2_append_3 75 = .ok (.aload_n 0, 1) := dk_42 (dk_at dksJ2_append_3_3 7 rfl rfl)
theorem dJ2_append_3_76 : decode cJ2_append_3 76 = .ok (.areturn, 1) := dk_176 (dk_at dksJ2_append_3_3 8 rfl rfl)
abbrev cJ2_setLength : ByteArray := prog_13_method_13_code
def yJ2_setLength : MethodName := ⟨RJ2, "setLength", "(I)V"⟩
def dkwJ2_setLength_3 : List UInt8 := [164, 0, 8, 42, 4, 181, 0, 73, 42, 27, 181, 0, 79, 177]
abbrev dktJ2_setLength_3 : List UInt8 := dkwJ2_setLength_3 ++ []
def dkwJ2_setLength_2 : List UInt8 := [167, 0, 31, 42, 180, 0, 15, 42, 180, 0, 79, 27, 184, 0, 137, 167, 0, 16, 42, 180, 0, 79, 27]
abbrev dktJ2_setLength_2 : List UInt8 := dkwJ2_setLength_2 ++ dktJ2_setLength_3
def dkwJ2_setLength_1 : List UInt8 := [162, 0, 40, 42, 182, 0, 83, 153, 0, 18, 42, 180, 0, 15, 42, 180, 0, 79, 27, 184, 0, 133]
abbrev dktJ2_setLength_1 : List UInt8 := dkwJ2_setLength_1 ++ dktJ2_setLength_2
def dkwJ2_setLength_0 : List UInt8 := [27, 156, 0, 12, 187, 0, 129, 89, 27, 183, 0, 131, 191, 42, 27, 182, 0, 100, 42, 180, 0, 79, 27]
abbrev dktJ2_setLength_0 : List UInt8 := dkwJ2_setLength_0 ++ dktJ2_setLength_1
theorem dksJ2_setLength_0 : cJ2_setLength.data.toList.drop 0 = dktJ2_setLength_0 := by decide +kernel
theorem dksJ2_setLength_1 : cJ2_setLength.data.toList.drop 23 = dktJ2_setLength_1 := dk_seg dksJ2_setLength_0 23 rfl rfl
theorem dksJ2_setLength_2 : cJ2_setLength.data.toList.drop 45 = dktJ2_setLength_2 := dk_seg dksJ2_setLength_1 22 rfl rfl
theorem dksJ2_setLength_3 : cJ2_setLength.data.toList.drop 68 = dktJ2_setLength_3 := dk_seg dksJ2_setLength_2 23 rfl rfl
theorem dJ2_setLength_0 : decode cJ2_setLength 0 = .ok (.iload_n 1, 1) := dk_27 (dk_at dksJ2_setLength_0 0 rfl rfl)
theorem dJ2_setLength_1 : decode cJ2_setLength 1 = .ok (.ifCond .ge 12, 3) := dk_156 0 12 (dk_at dksJ2_setLength_0 1 rfl rfl)
theorem dJ2_setLength_4 : decode cJ2_setLength 4 = .ok (.new 129, 3) := dk_187 0 129 (dk_at dksJ2_setLength_0 4 rfl rfl)
theorem dJ2_setLength_7 : decode cJ2_setLength 7 = .ok (.dup, 1) := dk_89 (dk_at dksJ2_setLength_0 7 rfl rfl)
theorem dJ2_setLength_8 : decode cJ2_setLength 8 = .ok (.iload_n 1, 1) := dk_27 (dk_at dksJ2_setLength_0 8 rfl rfl)
theorem dJ2_setLength_9 : decode cJ2_setLength 9 = .ok (.invokespecial 131, 3) := dk_183 0 131 (dk_at dksJ2_setLength_0 9 rfl rfl)
theorem dJ2_setLength_12 : decode cJ2_setLength 12 = .ok (.athrow, 1) := dk_191 (dk_at dksJ2_setLength_0 12 rfl rfl)
theorem dJ2_setLength_13 : decode cJ2_setLength 13 = .ok (.aload_n 0, 1) := dk_42 (dk_at dksJ2_setLength_0 13 rfl rfl)
theorem dJ2_setLength_14 : decode cJ2_setLength 14 = .ok (.iload_n 1, 1) := dk_27 (dk_at dksJ2_setLength_0 14 rfl rfl)
theorem dJ2_setLength_15 : decode cJ2_setLength 15 = .ok (.invokevirtual 100, 3) := dk_182 0 100 (dk_at dksJ2_setLength_0 15 rfl rfl)
theorem dJ2_setLength_18 : decode cJ2_setLength 18 = .ok (.aload_n 0, 1) := dk_42 (dk_at dksJ2_setLength_0 18 rfl rfl)
theorem dJ2_setLength_19 : decode cJ2_setLength 19 = .ok (.getfield 79, 3) := dk_180 0 79 (dk_at dksJ2_setLength_0 19 rfl rfl)
theorem dJ2_setLength_22 : decode cJ2_setLength 22 = .ok (.iload_n 1, 1) := dk_27 (dk_at dksJ2_setLength_0 22 rfl rfl)
theorem dJ2_setLength_23 : decode cJ2_setLength 23 = .ok (.if_icmp .ge 40, 3) := dk_162 0 40 (dk_at dksJ2_setLength_1 0 rfl rfl)
theorem dJ2_setLength_26 : decode cJ2_setLength 26 = .ok (.aload_n 0, 1) := dk_42 (dk_at dksJ2_setLength_1 3 rfl rfl)
theorem dJ2_setLength_27 : decode cJ2_setLength 27 = .ok (.invokevirtual 83, 3) := dk_182 0 83 (dk_at dksJ2_setLength_1 4 rfl rfl)
theorem dJ2_setLength_30 : decode cJ2_setLength 30 = .ok (.ifCond .eq 18, 3) := dk_153 0 18 (dk_at dksJ2_setLength_1 7 rfl rfl)
theorem dJ2_setLength_33 : decode cJ2_setLength 33 = .ok (.aload_n 0, 1) := dk_42 (dk_at dksJ2_setLength_1 10 rfl rfl)
theorem dJ2_setLength_34 : decode cJ2_setLength 34 = .ok (.getfield 15, 3) := dk_180 0 15 (dk_at dksJ2_setLength_1 11 rfl rfl)
theorem dJ2_setLength_37 : decode cJ2_setLength 37 = .ok (.aload_n 0, 1) := dk_42 (dk_at dksJ2_setLength_1 14 rfl rfl)
theorem dJ2_setLength_38 : decode cJ2_setLength 38 = .ok (.getfield 79, 3) := dk_180 0 79 (dk_at dksJ2_setLength_1 15 rfl rfl)
theorem dJ2_setLength_41 : decode cJ2_setLength 41 = .ok (.iload_n 1, 1) := dk_27 (dk_at dksJ2_setLength_1 18 rfl rfl)
theorem dJ2_setLength_42 : decode cJ2_setLength 42 = .ok (.invokestatic 133, 3) := dk_184 0 133 (dk_at dksJ2_setLength_1 19 rfl rfl)
theorem dJ2_setLength_45 : decode cJ2_setLength 45 = .ok (.goto 31, 3) := dk_167 0 31 (dk_at dksJ2_setLength_2 0 rfl rfl)
theorem dJ2_setLength_48 : decode cJ2_setLength 48 = .ok (.aload_n 0, 1) := dk_42 (dk_at dksJ2_setLength_2 3 rfl rfl)
theorem dJ2_setLength_49 : decode cJ2_setLength 49 = .ok (.getfield 15, 3) := dk_180 0 15 (dk_at dksJ2_setLength_2 4 rfl rfl)
theorem dJ2_setLength_52 : decode cJ2_setLength 52 = .ok (.aload_n 0, 1) := dk_42 (dk_at dksJ2_setLength_2 7 rfl rfl)
theorem dJ2_setLength_53 : decode cJ2_setLength 53 = .ok (.getfield 79, 3) := dk_180 0 79 (dk_at dksJ2_setLength_2 8 rfl rfl)
theorem dJ2_setLength_56 : decode cJ2_setLength 56 = .ok (.iload_n 1, 1) := dk_27 (dk_at dksJ2_setLength_2 11 rfl rfl)
theorem dJ2_setLength_57 : decode cJ2_setLength 57 = .ok (.invokestatic 137, 3) := dk_184 0 137 (dk_at dksJ2_setLength_2 12 rfl rfl)
theorem dJ2_setLength_60 : decode cJ2_setLength 60 = .ok (.goto 16, 3) := dk_167 0 16 (dk_at dksJ2_setLength_2 15 rfl rfl)
theorem dJ2_setLength_63 : decode cJ2_setLength 63 = .ok (.aload_n 0, 1) := dk_42 (dk_at dksJ2_setLength_2 18 rfl rfl)
theorem dJ2_setLength_64 : decode cJ2_setLength 64 = .ok (.getfield 79, 3) := dk_180 0 79 (dk_at dksJ2_setLength_2 19 rfl rfl)
theorem dJ2_setLength_67 : decode cJ2_setLength 67 = .ok (.iload_n 1, 1) := dk_27 (dk_at dksJ2_setLength_2 22 rfl rfl)
theorem dJ2_setLength_68 : decode cJ2_setLength 68 = .ok (.if_icmp .le 8, 3) := dk_164 0 8 (dk_at dksJ2_setLength_3 0 rfl rfl)
theorem dJ2_setLength_71 : decode cJ2_setLength 71 = .ok (.aload_n 0, 1) := dk_42 (dk_at dksJ2_setLength_3 3 rfl rfl)
theorem dJ2_setLength_72 : decode cJ2_setLength 72 = .ok (.iconst 1, 1) := dk_4 (dk_at dksJ2_setLength_3 4 rfl rfl)
theorem dJ2_setLength_73 : decode cJ2_setLength 73 = .ok (.putfield 73, 3) := dk_181 0 73 (dk_at dksJ2_setLength_3 5 rfl rfl)
theorem dJ2_setLength_76 : decode cJ2_setLength 76 = .ok (.aload_n 0, 1) := dk_42 (dk_at dksJ2_setLength_3 8 rfl rfl)
theorem dJ2_setLength_77 : decode cJ2_setLength 77 = .ok (.iload_n 1, 1) := dk_27 (dk_at dksJ2_setLength_3 9 rfl rfl)
theorem dJ2_setLength_78 : decode cJ2_setLength 78 = .ok (.putfield 79, 3) := dk_181 0 79 (dk_at dksJ2_setLength_3 10 rfl rfl)
theorem dJ2_setLength_81 : decode cJ2_setLength 81 = .ok (.return_, 1) := dk_177 (dk_at dksJ2_setLength_3 13 rfl rfl)
theorem q119 : (Jvm.Cond.initialized "java/lang/AbstractStringBuilder") ∈ lw_all := lw_g (lw_at lw_m1 4 rfl) rfl
theorem q191 : (Jvm.Cond.instanceMethod ({ cls := "java/lang/AbstractStringBuilder", name := "<init>", desc := "(I)V" } : Jvm.MethodName)) ∈ lw_all := lw_g (lw_at lw_m1 76 rfl) rfl
theorem q192 : (Jvm.Cond.code ({ cls := "java/lang/AbstractStringBuilder", name := "<init>", desc := "(I)V" } : Jvm.MethodName) prog_13_method_2_code (2 : Nat) (Option.none : Option Jvm.ClassFile.FieldType)) ∈ lw_all := lw_g (lw_at lw_m1 77 rfl) rfl
theorem q193 : (Jvm.Cond.methodLink "java/lang/AbstractStringBuilder" (3 : Nat) ({ cls := "java/lang/Object", name := "<init>", desc := "()V" } : Jvm.MethodName)) ∈ lw_all := lw_g (lw_at lw_m1 78 rfl) rfl
theorem q194 : (Jvm.Cond.fieldLink "java/lang/AbstractStringBuilder" (18 : Nat) "java/lang/String" "COMPACT_STRINGS" "Z") ∈ lw_all := lw_g (lw_at lw_m1 79 rfl) rfl
theorem q196 : (Jvm.Cond.methodLink "java/lang/AbstractStringBuilder" (26 : Nat) ({ cls := "java/lang/StringUTF16", name := "newBytesFor", desc := "(I)[B" } : Jvm.MethodName)) ∈ lw_all := lw_g (lw_at lw_m1 81 rfl) rfl
theorem q203 : (Jvm.Cond.fieldLink "java/lang/AbstractStringBuilder" (15 : Nat) "java/lang/AbstractStringBuilder" "value" "[B") ∈ lw_all := lw_g (lw_at lw_m1 88 rfl) rfl
theorem q204 : (Jvm.Cond.fieldLink "java/lang/AbstractStringBuilder" (22 : Nat) "java/lang/AbstractStringBuilder" "coder" "B") ∈ lw_all := lw_g (lw_at lw_m1 89 rfl) rfl
theorem q205 : (Jvm.Cond.fieldLink "java/lang/AbstractStringBuilder" (73 : Nat) "java/lang/AbstractStringBuilder" "maybeLatin1" "Z") ∈ lw_all := lw_g (lw_at lw_m1 90 rfl) rfl
theorem q207 : (Jvm.Cond.fieldLink "java/lang/AbstractStringBuilder" (79 : Nat) "java/lang/AbstractStringBuilder" "count" "I") ∈ lw_all := lw_g (lw_at lw_m1 92 rfl) rfl
theorem q209 : (Jvm.Cond.soleField "java/lang/AbstractStringBuilder" "value") ∈ lw_all := lw_g (lw_at lw_m1 94 rfl) rfl
theorem q211 : (Jvm.Cond.soleField "java/lang/AbstractStringBuilder" "coder") ∈ lw_all := lw_g (lw_at lw_m1 96 rfl) rfl
theorem q213 : (Jvm.Cond.soleField "java/lang/AbstractStringBuilder" "maybeLatin1") ∈ lw_all := lw_g (lw_at lw_m1 98 rfl) rfl
theorem q215 : (Jvm.Cond.soleField "java/lang/AbstractStringBuilder" "count") ∈ lw_all := lw_g (lw_at lw_m1 100 rfl) rfl
theorem q431 : (Jvm.Cond.instanceMethod ({ cls := "java/lang/AbstractStringBuilder", name := "append", desc := "(I)Ljava/lang/AbstractStringBuilder;" } : Jvm.MethodName)) ∈ lw_all := lw_g (lw_at lw_m2 76 rfl) rfl
theorem q432 : (Jvm.Cond.code ({ cls := "java/lang/AbstractStringBuilder", name := "append", desc := "(I)Ljava/lang/AbstractStringBuilder;" } : Jvm.MethodName) prog_13_method_32_code (4 : Nat) (Option.some (Jvm.ClassFile.FieldType.object "java/lang/AbstractStringBuilder"))) ∈ lw_all := lw_g (lw_at lw_m2 77 rfl) rfl
theorem q433 : (Jvm.Cond.methodLink "java/lang/AbstractStringBuilder" (245 : Nat) ({ cls := "java/lang/Integer", name := "stringSize", desc := "(I)I" } : Jvm.MethodName)) ∈ lw_all := lw_g (lw_at lw_m2 78 rfl) rfl
theorem q436 : (Jvm.Cond.methodLink "java/lang/AbstractStringBuilder" (100 : Nat) ({ cls := "java/lang/AbstractStringBuilder", name := "ensureCapacityInternal", desc := "(I)V" } : Jvm.MethodName)) ∈ lw_all := lw_g (lw_at lw_m2 81 rfl) rfl
theorem q437 : (Jvm.Cond.privateMethod ({ cls := "java/lang/AbstractStringBuilder", name := "ensureCapacityInternal", desc := "(I)V" } : Jvm.MethodName)) ∈ lw_tbl := lw_at lw_m2 82 rfl
theorem q438 : (Jvm.Cond.instanceMethod ({ cls := "java/lang/AbstractStringBuilder", name := "ensureCapacityInternal", desc := "(I)V" } : Jvm.MethodName)) ∈ lw_all := lw_g (lw_at lw_m2 83 rfl) rfl
theorem q439 : (Jvm.Cond.code ({ cls := "java/lang/AbstractStringBuilder", name := "ensureCapacityInternal", desc := "(I)V" } : Jvm.MethodName) prog_13_method_9_code (3 : Nat) (Option.none : Option Jvm.ClassFile.FieldType)) ∈ lw_all := lw_g (lw_at lw_m2 84 rfl) rfl
theorem q440 : (Jvm.Cond.methodLink "java/lang/AbstractStringBuilder" (104 : Nat) ({ cls := "java/lang/AbstractStringBuilder", name := "newCapacity", desc := "(I)I" } : Jvm.MethodName)) ∈ lw_all := lw_g (lw_at lw_m2 85 rfl) rfl
theorem q441 : (Jvm.Cond.privateMethod ({ cls := "java/lang/AbstractStringBuilder", name := "newCapacity", desc := "(I)I" } : Jvm.MethodName)) ∈ lw_tbl := lw_at lw_m2 86 rfl
theorem q442 : (Jvm.Cond.instanceMethod ({ cls := "java/lang/AbstractStringBuilder", name := "newCapacity", desc := "(I)I" } : Jvm.MethodName)) ∈ lw_all := lw_g (lw_at lw_m2 87 rfl) rfl
theorem q443 : (Jvm.Cond.code ({ cls := "java/lang/AbstractStringBuilder", name := "newCapacity", desc := "(I)I" } : Jvm.MethodName) prog_13_method_10_code (6 : Nat) (Option.some Jvm.ClassFile.FieldType.int)) ∈ lw_all := lw_g (lw_at lw_m2 88 rfl) rfl
theorem q444 : (Jvm.Cond.methodLink "java/lang/AbstractStringBuilder" (114 : Nat) ({ cls := "jdk/internal/util/ArraysSupport", name := "newLength", desc := "(III)I" } : Jvm.MethodName)) ∈ lw_all := lw_g (lw_at lw_m2 89 rfl) rfl
theorem q454 : (Jvm.Cond.constant "java/lang/AbstractStringBuilder" (39 : Nat) (2147483647 : Int32)) ∈ lw_all := lw_g (lw_at lw_m2 99 rfl) rfl
theorem q455 : (Jvm.Cond.methodLink "java/lang/AbstractStringBuilder" (108 : Nat) ({ cls := "java/util/Arrays", name := "copyOf", desc := "([BI)[B" } : Jvm.MethodName)) ∈ lw_all := lw_g (lw_at lw_m2 100 rfl) rfl
theorem q471 : (Jvm.Cond.methodLink "java/lang/AbstractStringBuilder" (83 : Nat) ({ cls := "java/lang/AbstractStringBuilder", name := "isLatin1", desc := "()Z" } : Jvm.MethodName)) ∈ lw_all := lw_g (lw_at lw_m2 116 rfl) rfl
theorem q472 : (Jvm.Cond.instanceMethod ({ cls := "java/lang/AbstractStringBuilder", name := "isLatin1", desc := "()Z" } : Jvm.MethodName)) ∈ lw_all := lw_g (lw_at lw_m2 117 rfl) rfl
theorem q473 : (Jvm.Cond.sameMethod "java/lang/AbstractStringBuilder" "java/lang/AbstractStringBuilder" "isLatin1" "()Z") ∈ lw_all := lw_g (lw_at lw_m2 118 rfl) rfl
theorem q475 : (Jvm.Cond.code ({ cls := "java/lang/AbstractStringBuilder", name := "isLatin1", desc := "()Z" } : Jvm.MethodName) prog_13_method_68_code (1 : Nat) (Option.some Jvm.ClassFile.FieldType.boolean)) ∈ lw_all := lw_g (lw_at lw_m2 120 rfl) rfl
theorem q476 : (Jvm.Cond.methodLink "java/lang/AbstractStringBuilder" (248 : Nat) ({ cls := "java/lang/Integer", name := "getChars", desc := "(II[B)I" } : Jvm.MethodName)) ∈ lw_all := lw_g (lw_at lw_m2 121 rfl) rfl
theorem q483 : (Jvm.Cond.methodLink "java/lang/AbstractStringBuilder" (251 : Nat) ({ cls := "java/lang/StringUTF16", name := "getChars", desc := "(III[B)I" } : Jvm.MethodName)) ∈ lw_all := lw_g (lw_at lw_m2 128 rfl) rfl
theorem q504 : (Jvm.Cond.instanceMethod ({ cls := "java/lang/AbstractStringBuilder", name := "append", desc := "(Ljava/lang/String;)Ljava/lang/AbstractStringBuilder;" } : Jvm.MethodName)) ∈ lw_all := lw_g (lw_at lw_m2 149 rfl) rfl
theorem q505 : (Jvm.Cond.code ({ cls := "java/lang/AbstractStringBuilder", name := "append", desc := "(Ljava/lang/String;)Ljava/lang/AbstractStringBuilder;" } : Jvm.MethodName) prog_13_method_22_code (3 : Nat) (Option.some (Jvm.ClassFile.FieldType.object "java/lang/AbstractStringBuilder"))) ∈ lw_all := lw_g (lw_at lw_m2 150 rfl) rfl
theorem q506 : (Jvm.Cond.methodLink "java/lang/AbstractStringBuilder" (204 : Nat) ({ cls := "java/lang/AbstractStringBuilder", name := "appendNull", desc := "()Ljava/lang/AbstractStringBuilder;" } : Jvm.MethodName)) ∈ lw_all := lw_g (lw_at lw_m2 151 rfl) rfl
theorem q507 : (Jvm.Cond.privateMethod ({ cls := "java/lang/AbstractStringBuilder", name := "appendNull", desc := "()Ljava/lang/AbstractStringBuilder;" } : Jvm.MethodName)) ∈ lw_tbl := lw_at lw_m2 152 rfl
theorem q508 : (Jvm.Cond.instanceMethod ({ cls := "java/lang/AbstractStringBuilder", name := "appendNull", desc := "()Ljava/lang/AbstractStringBuilder;" } : Jvm.MethodName)) ∈ lw_all := lw_g (lw_at lw_m2 153 rfl) rfl
theorem q509 : (Jvm.Cond.code ({ cls := "java/lang/AbstractStringBuilder", name := "appendNull", desc := "()Ljava/lang/AbstractStringBuilder;" } : Jvm.MethodName) prog_13_method_26_code (3 : Nat) (Option.some (Jvm.ClassFile.FieldType.object "java/lang/AbstractStringBuilder"))) ∈ lw_all := lw_g (lw_at lw_m2 154 rfl) rfl
theorem q510 : (Jvm.Cond.methodLink "java/lang/AbstractStringBuilder" (226 : Nat) ({ cls := "java/lang/StringUTF16", name := "putCharsAt", desc := "([BICCCC)I" } : Jvm.MethodName)) ∈ lw_all := lw_g (lw_at lw_m2 155 rfl) rfl
theorem q513 : (Jvm.Cond.methodLink "java/lang/AbstractStringBuilder" (32 : Nat) ({ cls := "java/lang/String", name := "length", desc := "()I" } : Jvm.MethodName)) ∈ lw_all := lw_g (lw_at lw_m2 158 rfl) rfl
theorem q514 : (Jvm.Cond.methodLink "java/lang/AbstractStringBuilder" (208 : Nat) ({ cls := "java/lang/AbstractStringBuilder", name := "putStringAt", desc := "(ILjava/lang/String;)V" } : Jvm.MethodName)) ∈ lw_all := lw_g (lw_at lw_m2 159 rfl) rfl
theorem q515 : (Jvm.Cond.privateMethod ({ cls := "java/lang/AbstractStringBuilder", name := "putStringAt", desc := "(ILjava/lang/String;)V" } : Jvm.MethodName)) ∈ lw_tbl := lw_at lw_m2 160 rfl
theorem q516 : (Jvm.Cond.instanceMethod ({ cls := "java/lang/AbstractStringBuilder", name := "putStringAt", desc := "(ILjava/lang/String;)V" } : Jvm.MethodName)) ∈ lw_all := lw_g (lw_at lw_m2 161 rfl) rfl
theorem q517 : (Jvm.Cond.code ({ cls := "java/lang/AbstractStringBuilder", name := "putStringAt", desc := "(ILjava/lang/String;)V" } : Jvm.MethodName) prog_13_method_73_code (3 : Nat) (Option.none : Option Jvm.ClassFile.FieldType)) ∈ lw_all := lw_g (lw_at lw_m2 162 rfl) rfl
theorem q518 : (Jvm.Cond.methodLink "java/lang/AbstractStringBuilder" (397 : Nat) ({ cls := "java/lang/AbstractStringBuilder", name := "inflateIfNeededFor", desc := "(Ljava/lang/String;)V" } : Jvm.MethodName)) ∈ lw_all := lw_g (lw_at lw_m2 163 rfl) rfl
theorem q519 : (Jvm.Cond.privateMethod ({ cls := "java/lang/AbstractStringBuilder", name := "inflateIfNeededFor", desc := "(Ljava/lang/String;)V" } : Jvm.MethodName)) ∈ lw_tbl := lw_at lw_m2 164 rfl
theorem q520 : (Jvm.Cond.instanceMethod ({ cls := "java/lang/AbstractStringBuilder", name := "inflateIfNeededFor", desc := "(Ljava/lang/String;)V" } : Jvm.MethodName)) ∈ lw_all := lw_g (lw_at lw_m2 165 rfl) rfl
theorem q521 : (Jvm.Cond.code ({ cls := "java/lang/AbstractStringBuilder", name := "inflateIfNeededFor", desc := "(Ljava/lang/String;)V" } : Jvm.MethodName) prog_13_method_71_code (2 : Nat) (Option.none : Option Jvm.ClassFile.FieldType)) ∈ lw_all := lw_g (lw_at lw_m2 166 rfl) rfl
theorem q522 : (Jvm.Cond.methodLink "java/lang/AbstractStringBuilder" (40 : Nat) ({ cls := "java/lang/String", name := "coder", desc := "()B" } : Jvm.MethodName)) ∈ lw_all := lw_g (lw_at lw_m2 167 rfl) rfl
theorem q523 : (Jvm.Cond.methodLink "java/lang/AbstractStringBuilder" (195 : Nat) ({ cls := "java/lang/AbstractStringBuilder", name := "inflate", desc := "()V" } : Jvm.MethodName)) ∈ lw_all := lw_g (lw_at lw_m2 168 rfl) rfl
theorem q524 : (Jvm.Cond.privateMethod ({ cls := "java/lang/AbstractStringBuilder", name := "inflate", desc := "()V" } : Jvm.MethodName)) ∈ lw_tbl := lw_at lw_m2 169 rfl
theorem q525 : (Jvm.Cond.instanceMethod ({ cls := "java/lang/AbstractStringBuilder", name := "inflate", desc := "()V" } : Jvm.MethodName)) ∈ lw_all := lw_g (lw_at lw_m2 170 rfl) rfl
theorem q526 : (Jvm.Cond.code ({ cls := "java/lang/AbstractStringBuilder", name := "inflate", desc := "()V" } : Jvm.MethodName) prog_13_method_11_code (2 : Nat) (Option.none : Option Jvm.ClassFile.FieldType)) ∈ lw_all := lw_g (lw_at lw_m2 171 rfl) rfl
theorem q527 : (Jvm.Cond.methodLink "java/lang/AbstractStringBuilder" (125 : Nat) ({ cls := "java/lang/StringLatin1", name := "inflate", desc := "([BI[BII)V" } : Jvm.MethodName)) ∈ lw_all := lw_g (lw_at lw_m2 172 rfl) rfl
theorem q542 : (Jvm.Cond.methodLink "java/lang/AbstractStringBuilder" (399 : Nat) ({ cls := "java/lang/String", name := "getBytes", desc := "([BIB)V" } : Jvm.MethodName)) ∈ lw_all := lw_g (lw_at lw_m2 187 rfl) rfl
theorem q561 : (Jvm.Cond.instanceMethod ({ cls := "java/lang/AbstractStringBuilder", name := "getValue", desc := "()[B" } : Jvm.MethodName)) ∈ lw_all := lw_g (lw_at lw_m2 206 rfl) rfl
theorem q562 : (Jvm.Cond.sameMethod "java/lang/AbstractStringBuilder" "java/lang/AbstractStringBuilder" "getValue" "()[B") ∈ lw_all := lw_g (lw_at lw_m2 207 rfl) rfl
theorem q564 : (Jvm.Cond.code ({ cls := "java/lang/AbstractStringBuilder", name := "getValue", desc := "()[B" } : Jvm.MethodName) prog_13_method_64_code (1 : Nat) (Option.some (Jvm.ClassFile.FieldType.array Jvm.ClassFile.FieldType.byte))) ∈ lw_all := lw_g (lw_at lw_m2 209 rfl) rfl
theorem q566 : (Jvm.Cond.instanceMethod ({ cls := "java/lang/AbstractStringBuilder", name := "length", desc := "()I" } : Jvm.MethodName)) ∈ lw_all := lw_g (lw_at lw_m2 211 rfl) rfl
theorem q567 : (Jvm.Cond.sameMethod "java/lang/AbstractStringBuilder" "java/lang/AbstractStringBuilder" "length" "()I") ∈ lw_all := lw_g (lw_at lw_m2 212 rfl) rfl
theorem q572 : (Jvm.Cond.code ({ cls := "java/lang/AbstractStringBuilder", name := "length", desc := "()I" } : Jvm.MethodName) prog_13_method_6_code (1 : Nat) (Option.some Jvm.ClassFile.FieldType.int)) ∈ lw_all := lw_g (lw_at lw_m2 217 rfl) rfl
theorem q1255 : (Jvm.Cond.instanceMethod ({ cls := "java/lang/AbstractStringBuilder", name := "append", desc := "(C)Ljava/lang/AbstractStringBuilder;" } : Jvm.MethodName)) ∈ lw_all := lw_g (lw_at lw_m5 180 rfl) rfl
theorem q1256 : (Jvm.Cond.code ({ cls := "java/lang/AbstractStringBuilder", name := "append", desc := "(C)Ljava/lang/AbstractStringBuilder;" } : Jvm.MethodName) prog_13_method_31_code (2 : Nat) (Option.some (Jvm.ClassFile.FieldType.object "java/lang/AbstractStringBuilder"))) ∈ lw_all := lw_g (lw_at lw_m5 181 rfl) rfl
theorem q1257 : (Jvm.Cond.methodLink "java/lang/AbstractStringBuilder" (191 : Nat) ({ cls := "java/lang/StringLatin1", name := "canEncode", desc := "(C)Z" } : Jvm.MethodName)) ∈ lw_all := lw_g (lw_at lw_m5 182 rfl) rfl
theorem q1260 : (Jvm.Cond.methodLink "java/lang/AbstractStringBuilder" (197 : Nat) ({ cls := "java/lang/StringUTF16", name := "putCharSB", desc := "([BII)V" } : Jvm.MethodName)) ∈ lw_all := lw_g (lw_at lw_m5 185 rfl) rfl
theorem q1273 : (Jvm.Cond.instanceMethod ({ cls := "java/lang/AbstractStringBuilder", name := "setLength", desc := "(I)V" } : Jvm.MethodName)) ∈ lw_all := lw_g (lw_at lw_m5 198 rfl) rfl
theorem q1274 : (Jvm.Cond.code ({ cls := "java/lang/AbstractStringBuilder", name := "setLength", desc := "(I)V" } : Jvm.MethodName) prog_13_method_13_code (2 : Nat) (Option.none : Option Jvm.ClassFile.FieldType)) ∈ lw_all := lw_g (lw_at lw_m5 199 rfl) rfl
theorem q1275 : (Jvm.Cond.classLink "java/lang/AbstractStringBuilder" (129 : Nat) "java/lang/StringIndexOutOfBoundsException") ∈ lw_all := lw_g (lw_at lw_m5 200 rfl) rfl
theorem q1277 : (Jvm.Cond.methodLink "java/lang/AbstractStringBuilder" (131 : Nat) ({ cls := "java/lang/StringIndexOutOfBoundsException", name := "<init>", desc := "(I)V" } : Jvm.MethodName)) ∈ lw_all := lw_g (lw_at lw_m5 202 rfl) rfl
theorem q1297 : (Jvm.Cond.methodLink "java/lang/AbstractStringBuilder" (133 : Nat) ({ cls := "java/lang/StringLatin1", name := "fillNull", desc := "([BII)V" } : Jvm.MethodName)) ∈ lw_all := lw_g (lw_at lw_m5 222 rfl) rfl
theorem q1332 : (Jvm.Cond.methodLink "java/lang/AbstractStringBuilder" (137 : Nat) ({ cls := "java/lang/StringUTF16", name := "fillNull", desc := "([BII)V" } : Jvm.MethodName)) ∈ lw_all := lw_g (lw_at lw_m6 17 rfl) rfl
theorem q2705 : (Jvm.Cond.sameMethod "java/lang/AbstractStringBuilder" "java/lang/AbstractStringBuilder" "append" "(I)Ljava/lang/AbstractStringBuilder;") ∈ lw_all := lw_g (lw_at lw_m11 190 rfl) rfl
theorem q2706 : (Jvm.Cond.sameMethod "java/lang/AbstractStringBuilder" "java/lang/AbstractStringBuilder" "ensureCapacityInternal" "(I)V") ∈ lw_all := lw_g (lw_at lw_m11 191 rfl) rfl
theorem q2707 : (Jvm.Cond.sameMethod "java/lang/AbstractStringBuilder" "java/lang/AbstractStringBuilder" "newCapacity" "(I)I") ∈ lw_all := lw_g (lw_at lw_m11 192 rfl) rfl
theorem q2708 : (Jvm.Cond.sameMethod "java/lang/AbstractStringBuilder" "java/lang/AbstractStringBuilder" "append" "(Ljava/lang/String;)Ljava/lang/AbstractStringBuilder;") ∈ lw_all := lw_g (lw_at lw_m11 193 rfl) rfl
theorem q2709 : (Jvm.Cond.sameMethod "java/lang/AbstractStringBuilder" "java/lang/AbstractStringBuilder" "appendNull" "()Ljava/lang/AbstractStringBuilder;") ∈ lw_all := lw_g (lw_at lw_m11 194 rfl) rfl
theorem q2710 : (Jvm.Cond.sameMethod "java/lang/AbstractStringBuilder" "java/lang/AbstractStringBuilder" "putStringAt" "(ILjava/lang/String;)V") ∈ lw_all := lw_g (lw_at lw_m11 195 rfl) rfl
theorem q2711 : (Jvm.Cond.sameMethod "java/lang/AbstractStringBuilder" "java/lang/AbstractStringBuilder" "inflateIfNeededFor" "(Ljava/lang/String;)V") ∈ lw_all := lw_g (lw_at lw_m11 196 rfl) rfl
theorem q2712 : (Jvm.Cond.sameMethod "java/lang/AbstractStringBuilder" "java/lang/AbstractStringBuilder" "inflate" "()V") ∈ lw_all := lw_g (lw_at lw_m11 197 rfl) rfl
theorem q2714 : (Jvm.Cond.sameMethod "java/lang/AbstractStringBuilder" "java/lang/AbstractStringBuilder" "append" "(C)Ljava/lang/AbstractStringBuilder;") ∈ lw_all := lw_g (lw_at lw_m11 199 rfl) rfl
theorem q2715 : (Jvm.Cond.sameMethod "java/lang/AbstractStringBuilder" "java/lang/AbstractStringBuilder" "setLength" "(I)V") ∈ lw_all := lw_g (lw_at lw_m11 200 rfl) rfl

/-! java/lang/StringBuilder -/
set_option maxRecDepth 100000
def RJ3 : String := "java/lang/StringBuilder"
def TJ3 : u_T := fun k => match k with
  | 0 => ("java/lang/AbstractStringBuilder", "value", "[B", false)
  | 1 => ("java/lang/AbstractStringBuilder", "coder", "B", false)
  | 2 => ("java/lang/AbstractStringBuilder", "maybeLatin1", "Z", false)
  | _ => ("java/lang/AbstractStringBuilder", "count", "I", false)
def tyJ3 : Nat → FieldType := fun k => match k with
  | 0 => .array .byte
  | 1 => .byte
  | 2 => .boolean
  | _ => .int
abbrev wsJ30 : List Cond := u_ws RJ3 TJ3 4
theorem nmJ3 : ∀ a, a < 4 → ∀ b, b < 4 → a ≠ b → (TJ3 a).2.1 ≠ (TJ3 b).2.1 := by decide +kernel
theorem tyJ3_ok : ∀ k, k < 4 → parseFieldDescriptor (TJ3 k).2.2.1 = some (tyJ3 k) := by decide +kernel
abbrev cJ3_init : ByteArray := prog_31_method_1_code
def yJ3_init : MethodName := ⟨RJ3, "<init>", "()V"⟩
def dkwJ3_init_0 : List UInt8 := [42, 16, 16, 183, 0, 1, 177]
abbrev dktJ3_init_0 : List UInt8 := dkwJ3_init_0 ++ []
theorem dksJ3_init_0 : cJ3_init.data.toList.drop 0 = dktJ3_init_0 := by decide +kernel
theorem dJ3_init_0 : decode cJ3_init 0 = .ok (.aload_n 0, 1) := dk_42 (dk_at dksJ3_init_0 0 rfl rfl)
theorem dJ3_init_1 : decode cJ3_init 1 = .ok (.bipush 16, 2) := dk_16 16 (dk_at dksJ3_init_0 1 rfl rfl)
theorem dJ3_init_3 : decode cJ3_init 3 = .ok (.invokespecial 1, 3) := dk_183 0 1 (dk_at dksJ3_init_0 3 rfl rfl)
theorem dJ3_init_6 : decode cJ3_init 6 = .ok (.return_, 1) := dk_177 (dk_at dksJ3_init_0 6 rfl rfl)
abbrev cJ3_append : ByteArray := prog_31_method_15_code
def yJ3_append : MethodName := ⟨RJ3, "append", "(I)Ljava/lang/StringBuilder;"⟩
def dkwJ3_append_0 : List UInt8 := [42, 27, 183, 0, 53, 87, 42, 176]
abbrev dktJ3_append_0 : List UInt8 := dkwJ3_append_0 ++ []
theorem dksJ3_append_0 : cJ3_append.data.toList.drop 0 = dktJ3_append_0 := by decide +kernel
theorem dJ3_append_0 : decode cJ3_append 0 = .ok (.aload_n 0, 1) := dk_42 (dk_at dksJ3_append_0 0 rfl rfl)
theorem dJ3_append_1 : decode cJ3_append 1 = .ok (.iload_n 1, 1) := dk_27 (dk_at dksJ3_append_0 1 rfl rfl)
theorem dJ3_append_2 : decode cJ3_append 2 = .ok (.invokespecial 53, 3) := dk_183 0 53 (dk_at dksJ3_append_0 2 rfl rfl)
theorem dJ3_append_5 : decode cJ3_append 5 = .ok (.pop, 1) := dk_87 (dk_at dksJ3_append_0 5 rfl rfl)
theorem dJ3_append_6 : decode cJ3_append 6 = .ok (.aload_n 0, 1) := dk_42 (dk_at dksJ3_append_0 6 rfl rfl)
theorem dJ3_append_7 : decode cJ3_append 7 = .ok (.areturn, 1) := dk_176 (dk_at dksJ3_append_0 7 rfl rfl)
abbrev cJ3_append_2 : ByteArray := prog_31_method_7_code
def yJ3_append_2 : MethodName := ⟨RJ3, "append", "(Ljava/lang/String;)Ljava/lang/StringBuilder;"⟩
def dkwJ3_append_2_0 : List UInt8 := [42, 43, 183, 0, 29, 87, 42, 176]
abbrev dktJ3_append_2_0 : List UInt8 := dkwJ3_append_2_0 ++ []
theorem dksJ3_append_2_0 : cJ3_append_2.data.toList.drop 0 = dktJ3_append_2_0 := by decide +kernel
theorem dJ3_append_2_0 : decode cJ3_append_2 0 = .ok (.aload_n 0, 1) := dk_42 (dk_at dksJ3_append_2_0 0 rfl rfl)
theorem dJ3_append_2_1 : decode cJ3_append_2 1 = .ok (.aload_n 1, 1) := dk_43 (dk_at dksJ3_append_2_0 1 rfl rfl)
theorem dJ3_append_2_2 : decode cJ3_append_2 2 = .ok (.invokespecial 29, 3) := dk_183 0 29 (dk_at dksJ3_append_2_0 2 rfl rfl)
theorem dJ3_append_2_5 : decode cJ3_append_2 5 = .ok (.pop, 1) := dk_87 (dk_at dksJ3_append_2_0 5 rfl rfl)
theorem dJ3_append_2_6 : decode cJ3_append_2 6 = .ok (.aload_n 0, 1) := dk_42 (dk_at dksJ3_append_2_0 6 rfl rfl)
theorem dJ3_append_2_7 : decode cJ3_append_2 7 = .ok (.areturn, 1) := dk_176 (dk_at dksJ3_append_2_0 7 rfl rfl)
abbrev cJ3_toString : ByteArray := prog_31_method_42_code
def yJ3_toString : MethodName := ⟨RJ3, "toString", "()Ljava/lang/String;"⟩
def dkwJ3_toString_0 : List UInt8 := [187, 0, 18, 89, 42, 183, 0, 137, 176]
abbrev dktJ3_toString_0 : List UInt8 := dkwJ3_toString_0 ++ []
theorem dksJ3_toString_0 : cJ3_toString.data.toList.drop 0 = dktJ3_toString_0 := by decide +kernel
theorem dJ3_toString_0 : decode cJ3_toString 0 = .ok (.new 18, 3) := dk_187 0 18 (dk_at dksJ3_toString_0 0 rfl rfl)
theorem dJ3_toString_3 : decode cJ3_toString 3 = .ok (.dup, 1) := dk_89 (dk_at dksJ3_toString_0 3 rfl rfl)
theorem dJ3_toString_4 : decode cJ3_toString 4 = .ok (.aload_n 0, 1) := dk_42 (dk_at dksJ3_toString_0 4 rfl rfl)
theorem dJ3_toString_5 : decode cJ3_toString 5 = .ok (.invokespecial 137, 3) := dk_183 0 137 (dk_at dksJ3_toString_0 5 rfl rfl)
theorem dJ3_toString_8 : decode cJ3_toString 8 = .ok (.areturn, 1) := dk_176 (dk_at dksJ3_toString_0 8 rfl rfl)
abbrev cJ3_length : ByteArray := prog_31_method_93_code
def yJ3_length : MethodName := ⟨RJ3, "length", "()I"⟩
theorem dJ3_length_0 : decode cJ3_length 0 = .ok (.aload_n 0, 1) := by decide +kernel
theorem dJ3_length_1 : decode cJ3_length 1 = .ok (.invokespecial 343, 3) := by decide +kernel
theorem dJ3_length_4 : decode cJ3_length 4 = .ok (.ireturn, 1) := by decide +kernel
abbrev cJ3_append_3 : ByteArray := prog_31_method_14_code
def yJ3_append_3 : MethodName := ⟨RJ3, "append", "(C)Ljava/lang/StringBuilder;"⟩
def dkwJ3_append_3_0 : List UInt8 := [42, 27, 183, 0, 50, 87, 42, 176]
abbrev dktJ3_append_3_0 : List UInt8 := dkwJ3_append_3_0 ++ []
theorem dksJ3_append_3_0 : cJ3_append_3.data.toList.drop 0 = dktJ3_append_3_0 := by decide +kernel
theorem dJ3_append_3_0 : decode cJ3_append_3 0 = .ok (.aload_n 0, 1) := dk_42 (dk_at dksJ3_append_3_0 0 rfl rfl)
theorem dJ3_append_3_1 : decode cJ3_append_3 1 = .ok (.iload_n 1, 1) := dk_27 (dk_at dksJ3_append_3_0 1 rfl rfl)
theorem dJ3_append_3_2 : decode cJ3_append_3 2 = .ok (.invokespecial 50, 3) := dk_183 0 50 (dk_at dksJ3_append_3_0 2 rfl rfl)
theorem dJ3_append_3_5 : decode cJ3_append_3 5 = .ok (.pop, 1) := dk_87 (dk_at dksJ3_append_3_0 5 rfl rfl)
theorem dJ3_append_3_6 : decode cJ3_append_3 6 = .ok (.aload_n 0, 1) := dk_42 (dk_at dksJ3_append_3_0 6 rfl rfl)
theorem dJ3_append_3_7 : decode cJ3_append_3 7 = .ok (.areturn, 1) := dk_176 (dk_at dksJ3_append_3_0 7 rfl rfl)
abbrev cJ3_setLength : ByteArray := prog_31_method_89_code
def yJ3_setLength : MethodName := ⟨RJ3, "setLength", "(I)V"⟩
def dkwJ3_setLength_0 : List UInt8 := [42, 27, 183, 1, 77, 177]
abbrev dktJ3_setLength_0 : List UInt8 := dkwJ3_setLength_0 ++ []
theorem dksJ3_setLength_0 : cJ3_setLength.data.toList.drop 0 = dktJ3_setLength_0 := by decide +kernel
theorem dJ3_setLength_0 : decode cJ3_setLength 0 = .ok (.aload_n 0, 1) := dk_42 (dk_at dksJ3_setLength_0 0 rfl rfl)
theorem dJ3_setLength_1 : decode cJ3_setLength 1 = .ok (.iload_n 1, 1) := dk_27 (dk_at dksJ3_setLength_0 1 rfl rfl)
theorem dJ3_setLength_2 : decode cJ3_setLength 2 = .ok (.invokespecial 333, 3) := dk_183 1 77 (dk_at dksJ3_setLength_0 2 rfl rfl)
theorem dJ3_setLength_5 : decode cJ3_setLength 5 = .ok (.return_, 1) := dk_177 (dk_at dksJ3_setLength_0 5 rfl rfl)
theorem q120 : (Jvm.Cond.initialized "java/lang/StringBuilder") ∈ lw_all := lw_g (lw_at lw_m1 5 rfl) rfl
theorem q186 : (Jvm.Cond.instantiable "java/lang/StringBuilder" (4 : Nat)) ∈ lw_all := lw_g (lw_at lw_m1 71 rfl) rfl
theorem q188 : (Jvm.Cond.instanceMethod ({ cls := "java/lang/StringBuilder", name := "<init>", desc := "()V" } : Jvm.MethodName)) ∈ lw_all := lw_g (lw_at lw_m1 73 rfl) rfl
theorem q189 : (Jvm.Cond.code ({ cls := "java/lang/StringBuilder", name := "<init>", desc := "()V" } : Jvm.MethodName) prog_31_method_1_code (1 : Nat) (Option.none : Option Jvm.ClassFile.FieldType)) ∈ lw_all := lw_g (lw_at lw_m1 74 rfl) rfl
theorem q190 : (Jvm.Cond.methodLink "java/lang/StringBuilder" (1 : Nat) ({ cls := "java/lang/AbstractStringBuilder", name := "<init>", desc := "(I)V" } : Jvm.MethodName)) ∈ lw_all := lw_g (lw_at lw_m1 75 rfl) rfl
theorem q208 : (Jvm.Cond.lays "java/lang/StringBuilder" "java/lang/AbstractStringBuilder" "value" "[B") ∈ lw_all := lw_g (lw_at lw_m1 93 rfl) rfl
theorem q210 : (Jvm.Cond.lays "java/lang/StringBuilder" "java/lang/AbstractStringBuilder" "coder" "B") ∈ lw_all := lw_g (lw_at lw_m1 95 rfl) rfl
theorem q212 : (Jvm.Cond.lays "java/lang/StringBuilder" "java/lang/AbstractStringBuilder" "maybeLatin1" "Z") ∈ lw_all := lw_g (lw_at lw_m1 97 rfl) rfl
theorem q214 : (Jvm.Cond.lays "java/lang/StringBuilder" "java/lang/AbstractStringBuilder" "count" "I") ∈ lw_all := lw_g (lw_at lw_m1 99 rfl) rfl
theorem q216 : (Jvm.Cond.superclass "java/lang/StringBuilder" "java/lang/AbstractStringBuilder") ∈ lw_all := lw_g (lw_at lw_m1 101 rfl) rfl
theorem q427 : (Jvm.Cond.instanceMethod ({ cls := "java/lang/StringBuilder", name := "append", desc := "(I)Ljava/lang/StringBuilder;" } : Jvm.MethodName)) ∈ lw_all := lw_g (lw_at lw_m2 72 rfl) rfl
theorem q428 : (Jvm.Cond.selects "java/lang/StringBuilder" ({ cls := "java/lang/StringBuilder", name := "append", desc := "(I)Ljava/lang/StringBuilder;" } : Jvm.MethodName) ({ cls := "java/lang/StringBuilder", name := "append", desc := "(I)Ljava/lang/StringBuilder;" } : Jvm.MethodName)) ∈ lw_all := lw_g (lw_at lw_m2 73 rfl) rfl
theorem q429 : (Jvm.Cond.code ({ cls := "java/lang/StringBuilder", name := "append", desc := "(I)Ljava/lang/StringBuilder;" } : Jvm.MethodName) prog_31_method_15_code (2 : Nat) (Option.some (Jvm.ClassFile.FieldType.object "java/lang/StringBuilder"))) ∈ lw_all := lw_g (lw_at lw_m2 74 rfl) rfl
theorem q430 : (Jvm.Cond.methodLink "java/lang/StringBuilder" (53 : Nat) ({ cls := "java/lang/AbstractStringBuilder", name := "append", desc := "(I)Ljava/lang/AbstractStringBuilder;" } : Jvm.MethodName)) ∈ lw_all := lw_g (lw_at lw_m2 75 rfl) rfl
theorem q474 : (Jvm.Cond.selects "java/lang/StringBuilder" ({ cls := "java/lang/AbstractStringBuilder", name := "isLatin1", desc := "()Z" } : Jvm.MethodName) ({ cls := "java/lang/AbstractStringBuilder", name := "isLatin1", desc := "()Z" } : Jvm.MethodName)) ∈ lw_all := lw_g (lw_at lw_m2 119 rfl) rfl
theorem q500 : (Jvm.Cond.instanceMethod ({ cls := "java/lang/StringBuilder", name := "append", desc := "(Ljava/lang/String;)Ljava/lang/StringBuilder;" } : Jvm.MethodName)) ∈ lw_all := lw_g (lw_at lw_m2 145 rfl) rfl
theorem q501 : (Jvm.Cond.selects "java/lang/StringBuilder" ({ cls := "java/lang/StringBuilder", name := "append", desc := "(Ljava/lang/String;)Ljava/lang/StringBuilder;" } : Jvm.MethodName) ({ cls := "java/lang/StringBuilder", name := "append", desc := "(Ljava/lang/String;)Ljava/lang/StringBuilder;" } : Jvm.MethodName)) ∈ lw_all := lw_g (lw_at lw_m2 146 rfl) rfl
theorem q502 : (Jvm.Cond.code ({ cls := "java/lang/StringBuilder", name := "append", desc := "(Ljava/lang/String;)Ljava/lang/StringBuilder;" } : Jvm.MethodName) prog_31_method_7_code (2 : Nat) (Option.some (Jvm.ClassFile.FieldType.object "java/lang/StringBuilder"))) ∈ lw_all := lw_g (lw_at lw_m2 147 rfl) rfl
theorem q503 : (Jvm.Cond.methodLink "java/lang/StringBuilder" (29 : Nat) ({ cls := "java/lang/AbstractStringBuilder", name := "append", desc := "(Ljava/lang/String;)Ljava/lang/AbstractStringBuilder;" } : Jvm.MethodName)) ∈ lw_all := lw_g (lw_at lw_m2 148 rfl) rfl
theorem q549 : (Jvm.Cond.instanceMethod ({ cls := "java/lang/StringBuilder", name := "toString", desc := "()Ljava/lang/String;" } : Jvm.MethodName)) ∈ lw_all := lw_g (lw_at lw_m2 194 rfl) rfl
theorem q550 : (Jvm.Cond.selects "java/lang/StringBuilder" ({ cls := "java/lang/StringBuilder", name := "toString", desc := "()Ljava/lang/String;" } : Jvm.MethodName) ({ cls := "java/lang/StringBuilder", name := "toString", desc := "()Ljava/lang/String;" } : Jvm.MethodName)) ∈ lw_all := lw_g (lw_at lw_m2 195 rfl) rfl
theorem q551 : (Jvm.Cond.code ({ cls := "java/lang/StringBuilder", name := "toString", desc := "()Ljava/lang/String;" } : Jvm.MethodName) prog_31_method_42_code (1 : Nat) (Option.some (Jvm.ClassFile.FieldType.object "java/lang/String"))) ∈ lw_all := lw_g (lw_at lw_m2 196 rfl) rfl
theorem q552 : (Jvm.Cond.classLink "java/lang/StringBuilder" (18 : Nat) "java/lang/String") ∈ lw_all := lw_g (lw_at lw_m2 197 rfl) rfl
theorem q553 : (Jvm.Cond.methodLink "java/lang/StringBuilder" (137 : Nat) ({ cls := "java/lang/String", name := "<init>", desc := "(Ljava/lang/StringBuilder;)V" } : Jvm.MethodName)) ∈ lw_all := lw_g (lw_at lw_m2 198 rfl) rfl
theorem q563 : (Jvm.Cond.selects "java/lang/StringBuilder" ({ cls := "java/lang/AbstractStringBuilder", name := "getValue", desc := "()[B" } : Jvm.MethodName) ({ cls := "java/lang/AbstractStringBuilder", name := "getValue", desc := "()[B" } : Jvm.MethodName)) ∈ lw_all := lw_g (lw_at lw_m2 208 rfl) rfl
theorem q568 : (Jvm.Cond.selects "java/lang/StringBuilder" ({ cls := "java/lang/AbstractStringBuilder", name := "length", desc := "()I" } : Jvm.MethodName) ({ cls := "java/lang/StringBuilder", name := "length", desc := "()I" } : Jvm.MethodName)) ∈ lw_all := lw_g (lw_at lw_m2 213 rfl) rfl
theorem q569 : (Jvm.Cond.instanceMethod ({ cls := "java/lang/StringBuilder", name := "length", desc := "()I" } : Jvm.MethodName)) ∈ lw_all := lw_g (lw_at lw_m2 214 rfl) rfl
theorem q570 : (Jvm.Cond.code ({ cls := "java/lang/StringBuilder", name := "length", desc := "()I" } : Jvm.MethodName) prog_31_method_93_code (1 : Nat) (Option.some Jvm.ClassFile.FieldType.int)) ∈ lw_all := lw_g (lw_at lw_m2 215 rfl) rfl
theorem q571 : (Jvm.Cond.methodLink "java/lang/StringBuilder" (343 : Nat) ({ cls := "java/lang/AbstractStringBuilder", name := "length", desc := "()I" } : Jvm.MethodName)) ∈ lw_all := lw_g (lw_at lw_m2 216 rfl) rfl
theorem q889 : (Jvm.Cond.selects "java/lang/StringBuilder" ({ cls := "java/lang/Object", name := "getClass", desc := "()Ljava/lang/Class;" } : Jvm.MethodName) ({ cls := "java/lang/Object", name := "getClass", desc := "()Ljava/lang/Class;" } : Jvm.MethodName)) ∈ lw_all := lw_g (lw_at lw_m4 54 rfl) rfl
theorem q1251 : (Jvm.Cond.instanceMethod ({ cls := "java/lang/StringBuilder", name := "append", desc := "(C)Ljava/lang/StringBuilder;" } : Jvm.MethodName)) ∈ lw_all := lw_g (lw_at lw_m5 176 rfl) rfl
theorem q1252 : (Jvm.Cond.selects "java/lang/StringBuilder" ({ cls := "java/lang/StringBuilder", name := "append", desc := "(C)Ljava/lang/StringBuilder;" } : Jvm.MethodName) ({ cls := "java/lang/StringBuilder", name := "append", desc := "(C)Ljava/lang/StringBuilder;" } : Jvm.MethodName)) ∈ lw_all := lw_g (lw_at lw_m5 177 rfl) rfl
theorem q1253 : (Jvm.Cond.code ({ cls := "java/lang/StringBuilder", name := "append", desc := "(C)Ljava/lang/StringBuilder;" } : Jvm.MethodName) prog_31_method_14_code (2 : Nat) (Option.some (Jvm.ClassFile.FieldType.object "java/lang/StringBuilder"))) ∈ lw_all := lw_g (lw_at lw_m5 178 rfl) rfl
theorem q1254 : (Jvm.Cond.methodLink "java/lang/StringBuilder" (50 : Nat) ({ cls := "java/lang/AbstractStringBuilder", name := "append", desc := "(C)Ljava/lang/AbstractStringBuilder;" } : Jvm.MethodName)) ∈ lw_all := lw_g (lw_at lw_m5 179 rfl) rfl
theorem q1269 : (Jvm.Cond.instanceMethod ({ cls := "java/lang/StringBuilder", name := "setLength", desc := "(I)V" } : Jvm.MethodName)) ∈ lw_all := lw_g (lw_at lw_m5 194 rfl) rfl
theorem q1270 : (Jvm.Cond.selects "java/lang/StringBuilder" ({ cls := "java/lang/StringBuilder", name := "setLength", desc := "(I)V" } : Jvm.MethodName) ({ cls := "java/lang/StringBuilder", name := "setLength", desc := "(I)V" } : Jvm.MethodName)) ∈ lw_all := lw_g (lw_at lw_m5 195 rfl) rfl
theorem q1271 : (Jvm.Cond.code ({ cls := "java/lang/StringBuilder", name := "setLength", desc := "(I)V" } : Jvm.MethodName) prog_31_method_89_code (2 : Nat) (Option.none : Option Jvm.ClassFile.FieldType)) ∈ lw_all := lw_g (lw_at lw_m5 196 rfl) rfl
theorem q1272 : (Jvm.Cond.methodLink "java/lang/StringBuilder" (333 : Nat) ({ cls := "java/lang/AbstractStringBuilder", name := "setLength", desc := "(I)V" } : Jvm.MethodName)) ∈ lw_all := lw_g (lw_at lw_m5 197 rfl) rfl
theorem q2713 : (Jvm.Cond.selects "java/lang/StringBuilder" ({ cls := "java/lang/StringBuilder", name := "length", desc := "()I" } : Jvm.MethodName) ({ cls := "java/lang/StringBuilder", name := "length", desc := "()I" } : Jvm.MethodName)) ∈ lw_all := lw_g (lw_at lw_m11 198 rfl) rfl
theorem q2721 : (Jvm.Cond.castable "java/lang/StringBuilder" "java/lang/Object") ∈ lw_tbl := lw_at lw_m11 206 rfl
theorem in_J3 : ∀ w ∈ wsJ30, w ∈ lw_all := lw_in wsJ30 [208, 210, 212, 214] (by decide +kernel) (by decide +kernel)

/-! java/lang/String -/
set_option maxRecDepth 100000
def RJ4 : String := "java/lang/String"
def TJ4 : u_T := fun k => match k with
  | 0 => ("java/lang/String", "value", "[B", true)
  | 1 => ("java/lang/String", "coder", "B", true)
  | 2 => ("java/lang/String", "hash", "I", false)
  | _ => ("java/lang/String", "hashIsZero", "Z", false)
def tyJ4 : Nat → FieldType := fun k => match k with
  | 0 => .array .byte
  | 1 => .byte
  | 2 => .int
  | _ => .boolean
abbrev wsJ40 : List Cond := u_ws RJ4 TJ4 4
theorem nmJ4 : ∀ a, a < 4 → ∀ b, b < 4 → a ≠ b → (TJ4 a).2.1 ≠ (TJ4 b).2.1 := by decide +kernel
theorem tyJ4_ok : ∀ k, k < 4 → parseFieldDescriptor (TJ4 k).2.2.1 = some (tyJ4 k) := by decide +kernel
abbrev cJ4_length : ByteArray := prog_30_method_54_code
def yJ4_length : MethodName := ⟨RJ4, "length", "()I"⟩
def dkwJ4_length_0 : List UInt8 := [42, 180, 0, 9, 190, 42, 182, 1, 79, 122, 172]
abbrev dktJ4_length_0 : List UInt8 := dkwJ4_length_0 ++ []
theorem dksJ4_length_0 : cJ4_length.data.toList.drop 0 = dktJ4_length_0 := by decide +kernel
theorem dJ4_length_0 : decode cJ4_length 0 = .ok (.aload_n 0, 1) := dk_42 (dk_at dksJ4_length_0 0 rfl rfl)
theorem dJ4_length_1 : decode cJ4_length 1 = .ok (.getfield 9, 3) := dk_180 0 9 (dk_at dksJ4_length_0 1 rfl rfl)
theorem dJ4_length_4 : decode cJ4_length 4 = .ok (.arraylength, 1) := dk_190 (dk_at dksJ4_length_0 4 rfl rfl)
theorem dJ4_length_5 : decode cJ4_length 5 = .ok (.aload_n 0, 1) := dk_42 (dk_at dksJ4_length_0 5 rfl rfl)
theorem dJ4_length_6 : decode cJ4_length 6 = .ok (.invokevirtual 335, 3) := dk_182 1 79 (dk_at dksJ4_length_0 6 rfl rfl)
theorem dJ4_length_9 : decode cJ4_length 9 = .ok (.ishr, 1) := dk_122 (dk_at dksJ4_length_0 9 rfl rfl)
theorem dJ4_length_10 : decode cJ4_length 10 = .ok (.ireturn, 1) := dk_172 (dk_at dksJ4_length_0 10 rfl rfl)
abbrev cJ4_coder : ByteArray := prog_30_method_152_code
def yJ4_coder : MethodName := ⟨RJ4, "coder", "()B"⟩
def dkwJ4_coder_0 : List UInt8 := [178, 0, 38, 153, 0, 10, 42, 180, 0, 15, 167, 0, 4, 4, 172]
abbrev dktJ4_coder_0 : List UInt8 := dkwJ4_coder_0 ++ []
theorem dksJ4_coder_0 : cJ4_coder.data.toList.drop 0 = dktJ4_coder_0 := by decide +kernel
theorem dJ4_coder_0 : decode cJ4_coder 0 = .ok (.getstatic 38, 3) := dk_178 0 38 (dk_at dksJ4_coder_0 0 rfl rfl)
theorem dJ4_coder_3 : decode cJ4_coder 3 = .ok (.ifCond .eq 10, 3) := dk_153 0 10 (dk_at dksJ4_coder_0 3 rfl rfl)
theorem dJ4_coder_6 : decode cJ4_coder 6 = .ok (.aload_n 0, 1) := dk_42 (dk_at dksJ4_coder_0 6 rfl rfl)
theorem dJ4_coder_7 : decode cJ4_coder 7 = .ok (.getfield 15, 3) := dk_180 0 15 (dk_at dksJ4_coder_0 7 rfl rfl)
theorem dJ4_coder_10 : decode cJ4_coder 10 = .ok (.goto 4, 3) := dk_167 0 4 (dk_at dksJ4_coder_0 10 rfl rfl)
theorem dJ4_coder_13 : decode cJ4_coder 13 = .ok (.iconst 1, 1) := dk_4 (dk_at dksJ4_coder_0 13 rfl rfl)
theorem dJ4_coder_14 : decode cJ4_coder 14 = .ok (.ireturn, 1) := dk_172 (dk_at dksJ4_coder_0 14 rfl rfl)
abbrev cJ4_charAt : ByteArray := prog_30_method_56_code
def yJ4_charAt : MethodName := ⟨RJ4, "charAt", "(I)C"⟩
def dkwJ4_charAt_1 : List UInt8 := [172]
abbrev dktJ4_charAt_1 : List UInt8 := dkwJ4_charAt_1 ++ []
def dkwJ4_charAt_0 : List UInt8 := [42, 182, 1, 236, 153, 0, 12, 42, 180, 0, 9, 27, 184, 1, 239, 172, 42, 180, 0, 9, 27, 184, 1, 242]
abbrev dktJ4_charAt_0 : List UInt8 := dkwJ4_charAt_0 ++ dktJ4_charAt_1
theorem dksJ4_charAt_0 : cJ4_charAt.data.toList.drop 0 = dktJ4_charAt_0 := by decide +kernel
theorem dksJ4_charAt_1 : cJ4_charAt.data.toList.drop 24 = dktJ4_charAt_1 := dk_seg dksJ4_charAt_0 24 rfl rfl
theorem dJ4_charAt_0 : decode cJ4_charAt 0 = .ok (.aload_n 0, 1) := dk_42 (dk_at dksJ4_charAt_0 0 rfl rfl)
theorem dJ4_charAt_1 : decode cJ4_charAt 1 = .ok (.invokevirtual 492, 3) := dk_182 1 236 (dk_at dksJ4_charAt_0 1 rfl rfl)
theorem dJ4_charAt_4 : decode cJ4_charAt 4 = .ok (.ifCond .eq 12, 3) := dk_153 0 12 (dk_at dksJ4_charAt_0 4 rfl rfl)
theorem dJ4_charAt_7 : decode cJ4_charAt 7 = .ok (.aload_n 0, 1) := dk_42 (dk_at dksJ4_charAt_0 7 rfl rfl)
theorem dJ4_charAt_8 : decode cJ4_charAt 8 = .ok (.getfield 9, 3) := dk_180 0 9 (dk_at dksJ4_charAt_0 8 rfl rfl)
theorem dJ4_charAt_11 : decode cJ4_charAt 11 = .ok (.iload_n 1, 1) := dk_27 (dk_at dksJ4_charAt_0 11 rfl rfl)
theorem dJ4_charAt_12 : decode cJ4_charAt 12 = .ok (.invokestatic 495, 3) := dk_184 1 239 (dk_at dksJ4_charAt_0 12 rfl rfl)
theorem dJ4_charAt_15 : decode cJ4_charAt 15 = .ok (.ireturn, 1) := dk_172 (dk_at dksJ4_charAt_0 15 rfl rfl)
theorem dJ4_charAt_16 : decode cJ4_charAt 16 = .ok (.aload_n 0, 1) := dk_42 (dk_at dksJ4_charAt_0 16 rfl rfl)
theorem dJ4_charAt_17 : decode cJ4_charAt 17 = .ok (.getfield 9, 3) := dk_180 0 9 (dk_at dksJ4_charAt_0 17 rfl rfl)
theorem dJ4_charAt_20 : decode cJ4_charAt 20 = .ok (.iload_n 1, 1) := dk_27 (dk_at dksJ4_charAt_0 20 rfl rfl)
theorem dJ4_charAt_21 : decode cJ4_charAt 21 = .ok (.invokestatic 498, 3) := dk_184 1 242 (dk_at dksJ4_charAt_0 21 rfl rfl)
theorem dJ4_charAt_24 : decode cJ4_charAt 24 = .ok (.ireturn, 1) := dk_172 (dk_at dksJ4_charAt_1 0 rfl rfl)
abbrev cJ4_isLatin1 : ByteArray := prog_30_method_154_code
def yJ4_isLatin1 : MethodName := ⟨RJ4, "isLatin1", "()Z"⟩
def dkwJ4_isLatin1_0 : List UInt8 := [178, 0, 38, 153, 0, 14, 42, 180, 0, 15, 154, 0, 7, 4, 167, 0, 4, 3, 172]
abbrev dktJ4_isLatin1_0 : List UInt8 := dkwJ4_isLatin1_0 ++ []
theorem dksJ4_isLatin1_0 : cJ4_isLatin1.data.toList.drop 0 = dktJ4_isLatin1_0 := by decide +kernel
theorem dJ4_isLatin1_0 : decode cJ4_isLatin1 0 = .ok (.getstatic 38, 3) := dk_178 0 38 (dk_at dksJ4_isLatin1_0 0 rfl rfl)
theorem dJ4_isLatin1_3 : decode cJ4_isLatin1 3 = .ok (.ifCond .eq 14, 3) := dk_153 0 14 (dk_at dksJ4_isLatin1_0 3 rfl rfl)
theorem dJ4_isLatin1_6 : decode cJ4_isLatin1 6 = .ok (.aload_n 0, 1) := dk_42 (dk_at dksJ4_isLatin1_0 6 rfl rfl)
theorem dJ4_isLatin1_7 : decode cJ4_isLatin1 7 = .ok (.getfield 15, 3) := dk_180 0 15 (dk_at dksJ4_isLatin1_0 7 rfl rfl)
theorem dJ4_isLatin1_10 : decode cJ4_isLatin1 10 = .ok (.ifCond .ne 7, 3) := dk_154 0 7 (dk_at dksJ4_isLatin1_0 10 rfl rfl)
theorem dJ4_isLatin1_13 : decode cJ4_isLatin1 13 = .ok (.iconst 1, 1) := dk_4 (dk_at dksJ4_isLatin1_0 13 rfl rfl)
theorem dJ4_isLatin1_14 : decode cJ4_isLatin1 14 = .ok (.goto 4, 3) := dk_167 0 4 (dk_at dksJ4_isLatin1_0 14 rfl rfl)
theorem dJ4_isLatin1_17 : decode cJ4_isLatin1 17 = .ok (.iconst 0, 1) := dk_3 (dk_at dksJ4_isLatin1_0 17 rfl rfl)
theorem dJ4_isLatin1_18 : decode cJ4_isLatin1 18 = .ok (.ireturn, 1) := dk_172 (dk_at dksJ4_isLatin1_0 18 rfl rfl)
abbrev cJ4_checkIndex : ByteArray := prog_30_method_155_code
def yJ4_checkIndex : MethodName := ⟨RJ4, "checkIndex", "(II)V"⟩
def dkwJ4_checkIndex_0 : List UInt8 := [26, 27, 178, 4, 29, 184, 4, 35, 87, 177]
abbrev dktJ4_checkIndex_0 : List UInt8 := dkwJ4_checkIndex_0 ++ []
theorem dksJ4_checkIndex_0 : cJ4_checkIndex.data.toList.drop 0 = dktJ4_checkIndex_0 := by decide +kernel
theorem dJ4_checkIndex_0 : decode cJ4_checkIndex 0 = .ok (.iload_n 0, 1) := dk_26 (dk_at dksJ4_checkIndex_0 0 rfl rfl)
theorem dJ4_checkIndex_1 : decode cJ4_checkIndex 1 = .ok (.iload_n 1, 1) := dk_27 (dk_at dksJ4_checkIndex_0 1 rfl rfl)
theorem dJ4_checkIndex_2 : decode cJ4_checkIndex 2 = .ok (.getstatic 1053, 3) := dk_178 4 29 (dk_at dksJ4_checkIndex_0 2 rfl rfl)
theorem dJ4_checkIndex_5 : decode cJ4_checkIndex 5 = .ok (.invokestatic 1059, 3) := dk_184 4 35 (dk_at dksJ4_checkIndex_0 5 rfl rfl)
theorem dJ4_checkIndex_8 : decode cJ4_checkIndex 8 = .ok (.pop, 1) := dk_87 (dk_at dksJ4_checkIndex_0 8 rfl rfl)
theorem dJ4_checkIndex_9 : decode cJ4_checkIndex 9 = .ok (.return_, 1) := dk_177 (dk_at dksJ4_checkIndex_0 9 rfl rfl)
abbrev cJ4_substring : ByteArray := prog_30_method_92_code
def yJ4_substring : MethodName := ⟨RJ4, "substring", "(II)Ljava/lang/String;"⟩
def dkwJ4_substring_2 : List UInt8 := [180, 0, 9, 27, 21, 4, 184, 2, 177, 176]
abbrev dktJ4_substring_2 : List UInt8 := dkwJ4_substring_2 ++ []
def dkwJ4_substring_1 : List UInt8 := [100, 54, 4, 42, 182, 1, 236, 153, 0, 16, 42, 180, 0, 9, 27, 21, 4, 184, 2, 173, 167, 0, 13, 42]
abbrev dktJ4_substring_1 : List UInt8 := dkwJ4_substring_1 ++ dktJ4_substring_2
def dkwJ4_substring_0 : List UInt8 := [42, 182, 1, 249, 62, 27, 28, 29, 184, 2, 9, 27, 154, 0, 10, 28, 29, 160, 0, 5, 42, 176, 28, 27]
abbrev dktJ4_substring_0 : List UInt8 := dkwJ4_substring_0 ++ dktJ4_substring_1
theorem dksJ4_substring_0 : cJ4_substring.data.toList.drop 0 = dktJ4_substring_0 := by decide +kernel
theorem dksJ4_substring_1 : cJ4_substring.data.toList.drop 24 = dktJ4_substring_1 := dk_seg dksJ4_substring_0 24 rfl rfl
theorem dksJ4_substring_2 : cJ4_substring.data.toList.drop 48 = dktJ4_substring_2 := dk_seg dksJ4_substring_1 24 rfl rfl
theorem dJ4_substring_0 : decode cJ4_substring 0 = .ok (.aload_n 0, 1) := dk_42 (dk_at dksJ4_substring_0 0 rfl rfl)
theorem dJ4_substring_1 : decode cJ4_substring 1 = .ok (.invokevirtual 505, 3) := dk_182 1 249 (dk_at dksJ4_substring_0 1 rfl rfl)
theorem dJ4_substring_4 : decode cJ4_substring 4 = .ok (.istore_n 3, 1) := dk_62 (dk_at dksJ4_substring_0 4 rfl rfl)
theorem dJ4_substring_5 : decode cJ4_substring 5 = .ok (.iload_n 1, 1) := dk_27 (dk_at dksJ4_substring_0 5 rfl rfl)
theorem dJ4_substring_6 : decode cJ4_substring 6 = .ok (.iload_n 2, 1) := dk_28 (dk_at dksJ4_substring_0 6 rfl rfl)
theorem dJ4_substring_7 : decode cJ4_substring 7 = .ok (.iload_n 3, 1) := dk_29 (dk_at dksJ4_substring_0 7 rfl rfl)
theorem dJ4_substring_8 : decode cJ4_substring 8 = .ok (.invokestatic 521, 3) := dk_184 2 9 (dk_at dksJ4_substring_0 8 rfl rfl)
theorem dJ4_substring_11 : decode cJ4_substring 11 = .ok (.iload_n 1, 1) := dk_27 (dk_at dksJ4_substring_0 11 rfl rfl)
theorem dJ4_substring_12 : decode cJ4_substring 12 = .ok (.ifCond .ne 10, 3) := dk_154 0 10 (dk_at dksJ4_substring_0 12 rfl rfl)
theorem dJ4_substring_15 : decode cJ4_substring 15 = .ok (.iload_n 2, 1) := dk_28 (dk_at dksJ4_substring_0 15 rfl rfl)
theorem dJ4_substring_16 : decode cJ4_substring 16 = .ok (.iload_n 3, 1) := dk_29 (dk_at dksJ4_substring_0 16 rfl rfl)
theorem dJ4_substring_17 : decode cJ4_substring 17 = .ok (.if_icmp .ne 5, 3) := dk_160 0 5 (dk_at dksJ4_substring_0 17 rfl rfl)
theorem dJ4_substring_20 : decode cJ4_substring 20 = .ok (.aload_n 0, 1) := dk_42 (dk_at dksJ4_substring_0 20 rfl rfl)
theorem dJ4_substring_21 : decode cJ4_substring 21 = .ok (.areturn, 1) := dk_176 (dk_at dksJ4_substring_0 21 rfl rfl)
theorem dJ4_substring_22 : decode cJ4_substring 22 = .ok (.iload_n 2, 1) := dk_28 (dk_at dksJ4_substring_0 22 rfl rfl)
theorem dJ4_substring_23 : decode cJ4_substring 23 = .ok (.iload_n 1, 1) := dk_27 (dk_at dksJ4_substring_0 23 rfl rfl)
theorem dJ4_substring_24 : decode cJ4_substring 24 = .ok (.isub, 1) := dk_100 (dk_at dksJ4_substring_1 0 rfl rfl)
theorem dJ4_substring_25 : decode cJ4_substring 25 = .ok (.istore 4, 2) := dk_54 4 (dk_at dksJ4_substring_1 1 rfl rfl)
theorem dJ4_substring_27 : decode cJ4_substring 27 = .ok (.aload_n 0, 1) := dk_42 (dk_at dksJ4_substring_1 3 rfl rfl)
theorem dJ4_substring_28 : decode cJ4_substring 28 = .ok (.invokevirtual 492, 3) := dk_182 1 236 (dk_at dksJ4_substring_1 4 rfl rfl)
theorem dJ4_substring_31 : decode cJ4_substring 31 = .ok (.ifCond .eq 16, 3) := dk_153 0 16 (dk_at dksJ4_substring_1 7 rfl rfl)
theorem dJ4_substring_34 : decode cJ4_substring 34 = .ok (.aload_n 0, 1) := dk_42 (dk_at dksJ4_substring_1 10 rfl rfl)
theorem dJ4_substring_35 : decode cJ4_substring 35 = .ok (.getfield 9, 3) := dk_180 0 9 (dk_at dksJ4_substring_1 11 rfl rfl)
theorem dJ4_substring_38 : decode cJ4_substring 38 = .ok (.iload_n 1, 1) := dk_27 (dk_at dksJ4_substring_1 14 rfl rfl)
theorem dJ4_substring_39 : decode cJ4_substring 39 = .ok (.iload 4, 2) := dk_21 4 (dk_at dksJ4_substring_1 15 rfl rfl)
theorem dJ4_substring_41 : decode cJ4_substring 41 = .ok (.invokestatic 685, 3) := dk_184 2 173 (dk_at dksJ4_substring_1 17 rfl rfl)
theorem dJ4_substring_44 : decode cJ4_substring 44 = .ok (.goto 13, 3) := dk_167 0 13 (dk_at dksJ4_substring_1 20 rfl rfl)
theorem dJ4_substring_47 : decode cJ4_substring 47 = .ok (.aload_n 0, 1) := dk_42 (dk_at dksJ4_substring_1 23 rfl rfl)
theorem dJ4_substring_48 : decode cJ4_substring 48 = .ok (.getfield 9, 3) := dk_180 0 9 (dk_at dksJ4_substring_2 0 rfl rfl)
theorem dJ4_substring_51 : decode cJ4_substring 51 = .ok (.iload_n 1, 1) := dk_27 (dk_at dksJ4_substring_2 3 rfl rfl)
theorem dJ4_substring_52 : decode cJ4_substring 52 = .ok (.iload 4, 2) := dk_21 4 (dk_at dksJ4_substring_2 4 rfl rfl)
theorem dJ4_substring_54 : decode cJ4_substring 54 = .ok (.invokestatic 689, 3) := dk_184 2 177 (dk_at dksJ4_substring_2 6 rfl rfl)
theorem dJ4_substring_57 : decode cJ4_substring 57 = .ok (.areturn, 1) := dk_176 (dk_at dksJ4_substring_2 9 rfl rfl)
abbrev cJ4_checkBoundsBeginEnd : ByteArray := prog_30_method_158_code
def yJ4_checkBoundsBeginEnd : MethodName := ⟨RJ4, "checkBoundsBeginEnd", "(III)V"⟩
def dkwJ4_checkBoundsBeginEnd_0 : List UInt8 := [26, 27, 28, 178, 4, 29, 184, 4, 38, 87, 177]
abbrev dktJ4_checkBoundsBeginEnd_0 : List UInt8 := dkwJ4_checkBoundsBeginEnd_0 ++ []
theorem dksJ4_checkBoundsBeginEnd_0 : cJ4_checkBoundsBeginEnd.data.toList.drop 0 = dktJ4_checkBoundsBeginEnd_0 := by decide +kernel
theorem dJ4_checkBoundsBeginEnd_0 : decode cJ4_checkBoundsBeginEnd 0 = .ok (.iload_n 0, 1) := dk_26 (dk_at dksJ4_checkBoundsBeginEnd_0 0 rfl rfl)
theorem dJ4_checkBoundsBeginEnd_1 : decode cJ4_checkBoundsBeginEnd 1 = .ok (.iload_n 1, 1) := dk_27 (dk_at dksJ4_checkBoundsBeginEnd_0 1 rfl rfl)
theorem dJ4_checkBoundsBeginEnd_2 : decode cJ4_checkBoundsBeginEnd 2 = .ok (.iload_n 2, 1) := dk_28 (dk_at dksJ4_checkBoundsBeginEnd_0 2 rfl rfl)
theorem dJ4_checkBoundsBeginEnd_3 : decode cJ4_checkBoundsBeginEnd 3 = .ok (.getstatic 1053, 3) := dk_178 4 29 (dk_at dksJ4_checkBoundsBeginEnd_0 3 rfl rfl)
theorem dJ4_checkBoundsBeginEnd_6 : decode cJ4_checkBoundsBeginEnd 6 = .ok (.invokestatic 1062, 3) := dk_184 4 38 (dk_at dksJ4_checkBoundsBeginEnd_0 6 rfl rfl)
theorem dJ4_checkBoundsBeginEnd_9 : decode cJ4_checkBoundsBeginEnd 9 = .ok (.pop, 1) := dk_87 (dk_at dksJ4_checkBoundsBeginEnd_0 9 rfl rfl)
theorem dJ4_checkBoundsBeginEnd_10 : decode cJ4_checkBoundsBeginEnd 10 = .ok (.return_, 1) := dk_177 (dk_at dksJ4_checkBoundsBeginEnd_0 10 rfl rfl)
abbrev cJ4_checkBoundsOffCount : ByteArray := prog_30_method_157_code
def yJ4_checkBoundsOffCount : MethodName := ⟨RJ4, "checkBoundsOffCount", "(III)I"⟩
def dkwJ4_checkBoundsOffCount_0 : List UInt8 := [26, 27, 28, 178, 4, 29, 184, 4, 41, 172]
abbrev dktJ4_checkBoundsOffCount_0 : List UInt8 := dkwJ4_checkBoundsOffCount_0 ++ []
theorem dksJ4_checkBoundsOffCount_0 : cJ4_checkBoundsOffCount.data.toList.drop 0 = dktJ4_checkBoundsOffCount_0 := by decide +kernel
theorem dJ4_checkBoundsOffCount_0 : decode cJ4_checkBoundsOffCount 0 = .ok (.iload_n 0, 1) := dk_26 (dk_at dksJ4_checkBoundsOffCount_0 0 rfl rfl)
theorem dJ4_checkBoundsOffCount_1 : decode cJ4_checkBoundsOffCount 1 = .ok (.iload_n 1, 1) := dk_27 (dk_at dksJ4_checkBoundsOffCount_0 1 rfl rfl)
theorem dJ4_checkBoundsOffCount_2 : decode cJ4_checkBoundsOffCount 2 = .ok (.iload_n 2, 1) := dk_28 (dk_at dksJ4_checkBoundsOffCount_0 2 rfl rfl)
theorem dJ4_checkBoundsOffCount_3 : decode cJ4_checkBoundsOffCount 3 = .ok (.getstatic 1053, 3) := dk_178 4 29 (dk_at dksJ4_checkBoundsOffCount_0 3 rfl rfl)
theorem dJ4_checkBoundsOffCount_6 : decode cJ4_checkBoundsOffCount 6 = .ok (.invokestatic 1065, 3) := dk_184 4 41 (dk_at dksJ4_checkBoundsOffCount_0 6 rfl rfl)
theorem dJ4_checkBoundsOffCount_9 : decode cJ4_checkBoundsOffCount 9 = .ok (.ireturn, 1) := dk_172 (dk_at dksJ4_checkBoundsOffCount_0 9 rfl rfl)
abbrev cJ4_getBytes : ByteArray := prog_30_method_147_code
def yJ4_getBytes : MethodName := ⟨RJ4, "getBytes", "([BIB)V"⟩
def dkwJ4_getBytes_1 : List UInt8 := [184, 0, 212, 167, 0, 18, 42, 180, 0, 9, 3, 43, 28, 42, 180, 0, 9, 190, 184, 0, 106, 177]
abbrev dktJ4_getBytes_1 : List UInt8 := dkwJ4_getBytes_1 ++ []
def dkwJ4_getBytes_0 : List UInt8 := [42, 182, 1, 79, 29, 160, 0, 23, 42, 180, 0, 9, 3, 43, 28, 29, 120, 42, 180, 0, 9, 190]
abbrev dktJ4_getBytes_0 : List UInt8 := dkwJ4_getBytes_0 ++ dktJ4_getBytes_1
theorem dksJ4_getBytes_0 : cJ4_getBytes.data.toList.drop 0 = dktJ4_getBytes_0 := by decide +kernel
theorem dksJ4_getBytes_1 : cJ4_getBytes.data.toList.drop 22 = dktJ4_getBytes_1 := dk_seg dksJ4_getBytes_0 22 rfl rfl
theorem dJ4_getBytes_0 : decode cJ4_getBytes 0 = .ok (.aload_n 0, 1) := dk_42 (dk_at dksJ4_getBytes_0 0 rfl rfl)
theorem dJ4_getBytes_1 : decode cJ4_getBytes 1 = .ok (.invokevirtual 335, 3) := dk_182 1 79 (dk_at dksJ4_getBytes_0 1 rfl rfl)
theorem dJ4_getBytes_4 : decode cJ4_getBytes 4 = .ok (.iload_n 3, 1) := dk_29 (dk_at dksJ4_getBytes_0 4 rfl rfl)
theorem dJ4_getBytes_5 : decode cJ4_getBytes 5 = .ok (.if_icmp .ne 23, 3) := dk_160 0 23 (dk_at dksJ4_getBytes_0 5 rfl rfl)
theorem dJ4_getBytes_8 : decode cJ4_getBytes 8 = .ok (.aload_n 0, 1) := dk_42 (dk_at dksJ4_getBytes_0 8 rfl rfl)
theorem dJ4_getBytes_9 : decode cJ4_getBytes 9 = .ok (.getfield 9, 3) := dk_180 0 9 (dk_at dksJ4_getBytes_0 9 rfl rfl)
theorem dJ4_getBytes_12 : decode cJ4_getBytes 12 = .ok (.iconst 0, 1) := dk_3 (dk_at dksJ4_getBytes_0 12 rfl rfl)
theorem dJ4_getBytes_13 : decode cJ4_getBytes 13 = .ok (.aload_n 1, 1) := dk_43 (dk_at dksJ4_getBytes_0 13 rfl rfl)
theorem dJ4_getBytes_14 : decode cJ4_getBytes 14 = .ok (.iload_n 2, 1) := dk_28 (dk_at dksJ4_getBytes_0 14 rfl rfl)
theorem dJ4_getBytes_15 : decode cJ4_getBytes 15 = .ok (.iload_n 3, 1) := dk_29 (dk_at dksJ4_getBytes_0 15 rfl rfl)
theorem dJ4_getBytes_16 : decode cJ4_getBytes 16 = .ok (.ishl, 1) := dk_120 (dk_at dksJ4_getBytes_0 16 rfl rfl)
theorem dJ4_getBytes_17 : decode cJ4_getBytes 17 = .ok (.aload_n 0, 1) := dk_42 (dk_at dksJ4_getBytes_0 17 rfl rfl)
theorem dJ4_getBytes_18 : decode cJ4_getBytes 18 = .ok (.getfield 9, 3) := dk_180 0 9 (dk_at dksJ4_getBytes_0 18 rfl rfl)
theorem dJ4_getBytes_21 : decode cJ4_getBytes 21 = .ok (.arraylength, 1) := dk_190 (dk_at dksJ4_getBytes_0 21 rfl rfl)
theorem dJ4_getBytes_22 : decode cJ4_getBytes 22 = .ok (.invokestatic 212, 3) := dk_184 0 212 (dk_at dksJ4_getBytes_1 0 rfl rfl)
theorem dJ4_getBytes_25 : decode cJ4_getBytes 25 = .ok (.goto 18, 3) := dk_167 0 18 (dk_at dksJ4_getBytes_1 3 rfl rfl)
theorem dJ4_getBytes_28 : decode cJ4_getBytes 28 = .ok (.aload_n 0, 1) := dk_42 (dk_at dksJ4_getBytes_1 6 rfl rfl)
theorem dJ4_getBytes_29 : decode cJ4_getBytes 29 = .ok (.getfield 9, 3) := dk_180 0 9 (dk_at dksJ4_getBytes_1 7 rfl rfl)
theorem dJ4_getBytes_32 : decode cJ4_getBytes 32 = .ok (.iconst 0, 1) := dk_3 (dk_at dksJ4_getBytes_1 10 rfl rfl)
theorem dJ4_getBytes_33 : decode cJ4_getBytes 33 = .ok (.aload_n 1, 1) := dk_43 (dk_at dksJ4_getBytes_1 11 rfl rfl)
theorem dJ4_getBytes_34 : decode cJ4_getBytes 34 = .ok (.iload_n 2, 1) := dk_28 (dk_at dksJ4_getBytes_1 12 rfl rfl)
theorem dJ4_getBytes_35 : decode cJ4_getBytes 35 = .ok (.aload_n 0, 1) := dk_42 (dk_at dksJ4_getBytes_1 13 rfl rfl)
theorem dJ4_getBytes_36 : decode cJ4_getBytes 36 = .ok (.getfield 9, 3) := dk_180 0 9 (dk_at dksJ4_getBytes_1 14 rfl rfl)
theorem dJ4_getBytes_39 : decode cJ4_getBytes 39 = .ok (.arraylength, 1) := dk_190 (dk_at dksJ4_getBytes_1 17 rfl rfl)
theorem dJ4_getBytes_40 : decode cJ4_getBytes 40 = .ok (.invokestatic 106, 3) := dk_184 0 106 (dk_at dksJ4_getBytes_1 18 rfl rfl)
theorem dJ4_getBytes_43 : decode cJ4_getBytes 43 = .ok (.return_, 1) := dk_177 (dk_at dksJ4_getBytes_1 21 rfl rfl)
abbrev cJ4_init : ByteArray := prog_30_method_53_code
def yJ4_init : MethodName := ⟨RJ4, "<init>", "(Ljava/lang/StringBuilder;)V"⟩
def dkwJ4_init_0 : List UInt8 := [42, 43, 1, 183, 1, 233, 177]
abbrev dktJ4_init_0 : List UInt8 := dkwJ4_init_0 ++ []
theorem dksJ4_init_0 : cJ4_init.data.toList.drop 0 = dktJ4_init_0 := by decide +kernel
theorem dJ4_init_0 : decode cJ4_init 0 = .ok (.aload_n 0, 1) := dk_42 (dk_at dksJ4_init_0 0 rfl rfl)
theorem dJ4_init_1 : decode cJ4_init 1 = .ok (.aload_n 1, 1) := dk_43 (dk_at dksJ4_init_0 1 rfl rfl)
theorem dJ4_init_2 : decode cJ4_init 2 = .ok (.aconst_null, 1) := dk_1 (dk_at dksJ4_init_0 2 rfl rfl)
theorem dJ4_init_3 : decode cJ4_init 3 = .ok (.invokespecial 489, 3) := dk_183 1 233 (dk_at dksJ4_init_0 3 rfl rfl)
theorem dJ4_init_6 : decode cJ4_init 6 = .ok (.return_, 1) := dk_177 (dk_at dksJ4_init_0 6 rfl rfl)
abbrev cJ4_init_2 : ByteArray := prog_30_method_150_code
def yJ4_init_2 : MethodName := ⟨RJ4, "<init>", "(Ljava/lang/AbstractStringBuilder;Ljava/lang/Void;)V"⟩
def dkwJ4_init_2_4 : List UInt8 := [181, 0, 9, 177]
abbrev dktJ4_init_2_4 : List UInt8 := dkwJ4_init_2_4 ++ []
def dkwJ4_init_2_3 : List UInt8 := [184, 0, 47, 181, 0, 15, 177, 42, 4, 181, 0, 15, 42, 45, 3, 21, 4, 4, 120, 184, 0, 54]
abbrev dktJ4_init_2_3 : List UInt8 := dkwJ4_init_2_3 ++ dktJ4_init_2_4
def dkwJ4_init_2_2 : List UInt8 := [180, 4, 24, 153, 0, 28, 42, 45, 3, 21, 4, 184, 4, 27, 181, 0, 9, 42, 42, 180, 0, 9, 21, 4]
abbrev dktJ4_init_2_2 : List UInt8 := dkwJ4_init_2_2 ++ dktJ4_init_2_3
def dkwJ4_init_2_1 : List UInt8 := [181, 0, 15, 42, 45, 3, 21, 4, 184, 0, 54, 181, 0, 9, 167, 0, 59, 178, 0, 38, 153, 0, 35, 43]
abbrev dktJ4_init_2_1 : List UInt8 := dkwJ4_init_2_1 ++ dktJ4_init_2_2
def dkwJ4_init_2_0 : List UInt8 := [42, 183, 0, 1, 43, 182, 2, 40, 78, 43, 182, 2, 37, 54, 4, 43, 182, 4, 23, 153, 0, 22, 42, 3]
abbrev dktJ4_init_2_0 : List UInt8 := dkwJ4_init_2_0 ++ dktJ4_init_2_1
theorem dksJ4_init_2_0 : cJ4_init_2.data.toList.drop 0 = dktJ4_init_2_0 := by decide +kernel
theorem dksJ4_init_2_1 : cJ4_init_2.data.toList.drop 24 = dktJ4_init_2_1 := dk_seg dksJ4_init_2_0 24 rfl rfl
theorem dksJ4_init_2_2 : cJ4_init_2.data.toList.drop 48 = dktJ4_init_2_2 := dk_seg dksJ4_init_2_1 24 rfl rfl
theorem dksJ4_init_2_3 : cJ4_init_2.data.toList.drop 72 = dktJ4_init_2_3 := dk_seg dksJ4_init_2_2 24 rfl rfl
theorem dksJ4_init_2_4 : cJ4_init_2.data.toList.drop 94 = dktJ4_init_2_4 := dk_seg dksJ4_init_2_3 22 rfl rfl
theorem dJ4_init_2_0 : decode cJ4_init_2 0 = .ok (.aload_n 0, 1) := dk_42 (dk_at dksJ4_init_2_0 0 rfl rfl)
theorem dJ4_init_2_1 : decode cJ4_init_2 1 = .ok (.invokespecial 1, 3) := dk_183 0 1 (dk_at dksJ4_init_2_0 1 rfl rfl)
theorem dJ4_init_2_4 : decode cJ4_init_2 4 = .ok (.aload_n 1, 1) := dk_43 (dk_at dksJ4_init_2_0 4 rfl rfl)
theorem dJ4_init_2_5 : decode cJ4_init_2 5 = .ok (.invokevirtual 552, 3) := dk_182 2 40 (dk_at dksJ4_init_2_0 5 rfl rfl)
theorem dJ4_init_2_8 : decode cJ4_init_2 8 = .ok (.astore_n 3, 1) := dk_78 (dk_at dksJ4_init_2_0 8 rfl rfl)
theorem dJ4_init_2_9 : decode cJ4_init_2 9 = .ok (.aload_n 1, 1) := dk_43 (dk_at dksJ4_init_2_0 9 rfl rfl)
theorem dJ4_init_2_10 : decode cJ4_init_2 10 = .ok (.invokevirtual 549, 3) := dk_182 2 37 (dk_at dksJ4_init_2_0 10 rfl rfl)
theorem dJ4_init_2_13 : decode cJ4_init_2 13 = .ok (.istore 4, 2) := dk_54 4 (dk_at dksJ4_init_2_0 13 rfl rfl)
theorem dJ4_init_2_15 : decode cJ4_init_2 15 = .ok (.aload_n 1, 1) := dk_43 (dk_at dksJ4_init_2_0 15 rfl rfl)
theorem dJ4_init_2_16 : decode cJ4_init_2 16 = .ok (.invokevirtual 1047, 3) := dk_182 4 23 (dk_at dksJ4_init_2_0 16 rfl rfl)
theorem dJ4_init_2_19 : decode cJ4_init_2 19 = .ok (.ifCond .eq 22, 3) := dk_153 0 22 (dk_at dksJ4_init_2_0 19 rfl rfl)
theorem dJ4_init_2_22 : decode cJ4_init_2 22 = .ok (.aload_n 0, 1) := dk_42 (dk_at dksJ4_init_2_0 22 rfl rfl)
theorem dJ4_init_2_23 : decode cJ4_init_2 23 = .ok (.iconst 0, 1) := dk_3 (dk_at dksJ4_init_2_0 23 rfl rfl)
theorem dJ4_init_2_24 : decode cJ4_init_2 24 = .ok (.putfield 15, 3) := dk_181 0 15 (dk_at dksJ4_init_2_1 0 rfl rfl)
theorem dJ4_init_2_27 : decode cJ4_init_2 27 = .ok (.aload_n 0, 1) := dk_42 (dk_at dksJ4_init_2_1 3 rfl rfl)
theorem dJ4_init_2_28 : decode cJ4_init_2 28 = .ok (.aload_n 3, 1) := dk_45 (dk_at dksJ4_init_2_1 4 rfl rfl)
theorem dJ4_init_2_29 : decode cJ4_init_2 29 = .ok (.iconst 0, 1) := dk_3 (dk_at dksJ4_init_2_1 5 rfl rfl)
theorem dJ4_init_2_30 : decode cJ4_init_2 30 = .ok (.iload 4, 2) := dk_21 4 (dk_at dksJ4_init_2_1 6 rfl rfl)
theorem dJ4_init_2_32 : decode cJ4_init_2 32 = .ok (.invokestatic 54, 3) := dk_184 0 54 (dk_at dksJ4_init_2_1 8 rfl rfl)
theorem dJ4_init_2_35 : decode cJ4_init_2 35 = .ok (.putfield 9, 3) := dk_181 0 9 (dk_at dksJ4_init_2_1 11 rfl rfl)
theorem dJ4_init_2_38 : decode cJ4_init_2 38 = .ok (.goto 59, 3) := dk_167 0 59 (dk_at dksJ4_init_2_1 14 rfl rfl)
theorem dJ4_init_2_41 : decode cJ4_init_2 41 = .ok (.getstatic 38, 3) := dk_178 0 38 (dk_at dksJ4_init_2_1 17 rfl rfl)
theorem dJ4_init_2_44 : decode cJ4_init_2 44 = .ok (.ifCond .eq 35, 3) := dk_153 0 35 (dk_at dksJ4_init_2_1 20 rfl rfl)
theorem dJ4_init_2_47 : decode cJ4_init_2 47 = .ok (.aload_n 1, 1) := dk_43 (dk_at dksJ4_init_2_1 23 rfl rfl)
theorem dJ4_init_2_48 : decode cJ4_init_2 48 = .ok (.getfield 1048, 3) := dk_180 4 24 (dk_at dksJ4_init_2_2 0 rfl rfl)
theorem dJ4_init_2_51 : decode cJ4_init_2 51 = .ok (.ifCond .eq 28, 3) := dk_153 0 28 (dk_at dksJ4_init_2_2 3 rfl rfl)
theorem dJ4_init_2_54 : decode cJ4_init_2 54 = .ok (.aload_n 0, 1) := dk_42 (dk_at dksJ4_init_2_2 6 rfl rfl)
theorem dJ4_init_2_55 : decode cJ4_init_2 55 = .ok (.aload_n 3, 1) := dk_45 (dk_at dksJ4_init_2_2 7 rfl rfl)
theorem dJ4_init_2_56 : decode cJ4_init_2 56 = .ok (.iconst 0, 1) := dk_3 (dk_at dksJ4_init_2_2 8 rfl rfl)
theorem dJ4_init_2_57 : decode cJ4_init_2 57 = .ok (.iload 4, 2) := dk_21 4 (dk_at dksJ4_init_2_2 9 rfl rfl)
theorem dJ4_init_2_59 : decode cJ4_init_2 59 = .ok (.invokestatic 1051, 3) := dk_184 4 27 (dk_at dksJ4_init_2_2 11 rfl rfl)
theorem dJ4_init_2_62 : decode cJ4_init_2 62 = .ok (.putfield 9, 3) := dk_181 0 9 (dk_at dksJ4_init_2_2 14 rfl rfl)
theorem dJ4_init_2_65 : decode cJ4_init_2 65 = .ok (.aload_n 0, 1) := dk_42 (dk_at dksJ4_init_2_2 17 rfl rfl)
theorem dJ4_init_2_66 : decode cJ4_init_2 66 = .ok (.aload_n 0, 1) := dk_42 (dk_at dksJ4_init_2_2 18 rfl rfl)
theorem dJ4_init_2_67 : decode cJ4_init_2 67 = .ok (.getfield 9, 3) := dk_180 0 9 (dk_at dksJ4_init_2_2 19 rfl rfl)
theorem dJ4_init_2_70 : decode cJ4_init_2 70 = .ok (.iload 4, 2) := dk_21 4 (dk_at dksJ4_init_2_2 22 rfl rfl)
theorem dJ4_init_2_72 : decode cJ4_init_2 72 = .ok (.invokestatic 47, 3) := dk_184 0 47 (dk_at dksJ4_init_2_3 0 rfl rfl)
theorem dJ4_init_2_75 : decode cJ4_init_2 75 = .ok (.putfield 15, 3) := dk_181 0 15 (dk_at dksJ4_init_2_3 3 rfl rfl)
theorem dJ4_init_2_78 : decode cJ4_init_2 78 = .ok (.return_, 1) := dk_177 (dk_at dksJ4_init_2_3 6 rfl rfl)
theorem dJ4_init_2_79 : decode cJ4_init_2 79 = .ok (.aload_n 0, 1) := dk_42 (dk_at dksJ4_init_2_3 7 rfl rfl)
theorem dJ4_init_2_80 : decode cJ4_init_2 80 = .ok (.iconst 1, 1) := dk_4 (dk_at dksJ4_init_2_3 8 rfl rfl)
theorem dJ4_init_2_81 : decode cJ4_init_2 81 = .ok (.putfield 15, 3) := dk_181 0 15 (dk_at dksJ4_init_2_3 9 rfl rfl)
theorem dJ4_init_2_84 : decode cJ4_init_2 84 = .ok (.aload_n 0, 1) := dk_42 (dk_at dksJ4_init_2_3 12 rfl rfl)
theorem dJ4_init_2_85 : decode cJ4_init_2 85 = .ok (.aload_n 3, 1) := dk_45 (dk_at dksJ4_init_2_3 13 rfl rfl)
theorem dJ4_init_2_86 : decode cJ4_init_2 86 = .ok (.iconst 0, 1) := dk_3 (dk_at dksJ4_init_2_3 14 rfl rfl)
theorem dJ4_init_2_87 : decode cJ4_init_2 87 = .ok (.iload 4, 2) := dk_21 4 (dk_at dksJ4_init_2_3 15 rfl rfl)
theorem dJ4_init_2_89 : decode cJ4_init_2 89 = .ok (.iconst 1, 1) := dk_4 (dk_at dksJ4_init_2_3 17 rfl rfl)
theorem dJ4_init_2_90 : decode cJ4_init_2 90 = .ok (.ishl, 1) := dk_120 (dk_at dksJ4_init_2_3 18 rfl rfl)
theorem dJ4_init_2_91 : decode cJ4_init_2 91 = .ok (.invokestatic 54, 3) := dk_184 0 54 (dk_at dksJ4_init_2_3 19 rfl rfl)
theorem dJ4_init_2_94 : decode cJ4_init_2 94 = .ok (.putfield 9, 3) := dk_181 0 9 (dk_at dksJ4_init_2_4 0 rfl rfl)
theorem dJ4_init_2_97 : decode cJ4_init_2 97 = .ok (.return_, 1) := dk_177 (dk_at dksJ4_init_2_4 3 rfl rfl)
abbrev cJ4_init_3 : ByteArray := prog_30_method_151_code
def yJ4_init_3 : MethodName := ⟨RJ4, "<init>", "([BB)V"⟩
def dkwJ4_init_3_0 : List UInt8 := [42, 183, 0, 1, 42, 43, 181, 0, 9, 42, 28, 181, 0, 15, 177]
abbrev dktJ4_init_3_0 : List UInt8 := dkwJ4_init_3_0 ++ []
theorem dksJ4_init_3_0 : cJ4_init_3.data.toList.drop 0 = dktJ4_init_3_0 := by decide +kernel
theorem dJ4_init_3_0 : decode cJ4_init_3 0 = .ok (.aload_n 0, 1) := dk_42 (dk_at dksJ4_init_3_0 0 rfl rfl)
theorem dJ4_init_3_1 : decode cJ4_init_3 1 = .ok (.invokespecial 1, 3) := dk_183 0 1 (dk_at dksJ4_init_3_0 1 rfl rfl)
theorem dJ4_init_3_4 : decode cJ4_init_3 4 = .ok (.aload_n 0, 1) := dk_42 (dk_at dksJ4_init_3_0 4 rfl rfl)
theorem dJ4_init_3_5 : decode cJ4_init_3 5 = .ok (.aload_n 1, 1) := dk_43 (dk_at dksJ4_init_3_0 5 rfl rfl)
theorem dJ4_init_3_6 : decode cJ4_init_3 6 = .ok (.putfield 9, 3) := dk_181 0 9 (dk_at dksJ4_init_3_0 6 rfl rfl)
theorem dJ4_init_3_9 : decode cJ4_init_3 9 = .ok (.aload_n 0, 1) := dk_42 (dk_at dksJ4_init_3_0 9 rfl rfl)
theorem dJ4_init_3_10 : decode cJ4_init_3 10 = .ok (.iload_n 2, 1) := dk_28 (dk_at dksJ4_init_3_0 10 rfl rfl)
theorem dJ4_init_3_11 : decode cJ4_init_3 11 = .ok (.putfield 15, 3) := dk_181 0 15 (dk_at dksJ4_init_3_0 11 rfl rfl)
theorem dJ4_init_3_14 : decode cJ4_init_3 14 = .ok (.return_, 1) := dk_177 (dk_at dksJ4_init_3_0 14 rfl rfl)
abbrev cJ4_equals : ByteArray := prog_30_method_66_code
def yJ4_equals : MethodName := ⟨RJ4, "equals", "(Ljava/lang/Object;)Z"⟩
def dkwJ4_equals_2 : List UInt8 := [184, 2, 29, 153, 0, 7, 4, 167, 0, 4, 3, 172]
abbrev dktJ4_equals_2 : List UInt8 := dkwJ4_equals_2 ++ []
def dkwJ4_equals_1 : List UInt8 := [153, 0, 14, 42, 180, 0, 15, 44, 180, 0, 15, 160, 0, 21, 42, 180, 0, 9, 44, 180, 0, 9]
abbrev dktJ4_equals_1 : List UInt8 := dkwJ4_equals_1 ++ dktJ4_equals_2
def dkwJ4_equals_0 : List UInt8 := [42, 43, 166, 0, 5, 4, 172, 43, 193, 0, 10, 153, 0, 43, 43, 192, 0, 10, 77, 178, 0, 38]
abbrev dktJ4_equals_0 : List UInt8 := dkwJ4_equals_0 ++ dktJ4_equals_1
theorem dksJ4_equals_0 : cJ4_equals.data.toList.drop 0 = dktJ4_equals_0 := by decide +kernel
theorem dksJ4_equals_1 : cJ4_equals.data.toList.drop 22 = dktJ4_equals_1 := dk_seg dksJ4_equals_0 22 rfl rfl
theorem dksJ4_equals_2 : cJ4_equals.data.toList.drop 44 = dktJ4_equals_2 := dk_seg dksJ4_equals_1 22 rfl rfl
theorem dJ4_equals_0 : decode cJ4_equals 0 = .ok (.aload_n 0, 1) := dk_42 (dk_at dksJ4_equals_0 0 rfl rfl)
theorem dJ4_equals_1 : decode cJ4_equals 1 = .ok (.aload_n 1, 1) := dk_43 (dk_at dksJ4_equals_0 1 rfl rfl)
theorem dJ4_equals_2 : decode cJ4_equals 2 = .ok (.if_acmp .ne 5, 3) := dk_166 0 5 (dk_at dksJ4_equals_0 2 rfl rfl)
theorem dJ4_equals_5 : decode cJ4_equals 5 = .ok (.iconst 1, 1) := dk_4 (dk_at dksJ4_equals_0 5 rfl rfl)
theorem dJ4_equals_6 : decode cJ4_equals 6 = .ok (.ireturn, 1) := dk_172 (dk_at dksJ4_equals_0 6 rfl rfl)
theorem dJ4_equals_7 : decode cJ4_equals 7 = .ok (.aload_n 1, 1) := dk_43 (dk_at dksJ4_equals_0 7 rfl rfl)
theorem dJ4_equals_8 : decode cJ4_equals 8 = .ok (.instanceof 10, 3) := dk_193 0 10 (dk_at dksJ4_equals_0 8 rfl rfl)
theorem dJ4_equals_11 : decode cJ4_equals 11 = .ok (.ifCond .eq 43, 3) := dk_153 0 43 (dk_at dksJ4_equals_0 11 rfl rfl)
theorem dJ4_equals_14 : decode cJ4_equals 14 = .ok (.aload_n 1, 1) := dk_43 (dk_at dksJ4_equals_0 14 rfl rfl)
theorem dJ4_equals_15 : decode cJ4_equals 15 = .ok (.checkcast 10, 3) := dk_192 0 10 (dk_at dksJ4_equals_0 15 rfl rfl)
theorem dJ4_equals_18 : decode cJ4_equals 18 = .ok (.astore_n 2, 1) := dk_77 (dk_at dksJ4_equals_0 18 rfl rfl)
theorem dJ4_equals_19 : decode cJ4_equals 19 = .ok (.getstatic 38, 3) := dk_178 0 38 (dk_at dksJ4_equals_0 19 rfl rfl)
theorem dJ4_equals_22 : decode cJ4_equals 22 = .ok (.ifCond .eq 14, 3) := dk_153 0 14 (dk_at dksJ4_equals_1 0 rfl rfl)
theorem dJ4_equals_25 : decode cJ4_equals 25 = .ok (.aload_n 0, 1) := dk_42 (dk_at dksJ4_equals_1 3 rfl rfl)
theorem dJ4_equals_26 : decode cJ4_equals 26 = .ok (.getfield 15, 3) := dk_180 0 15 (dk_at dksJ4_equals_1 4 rfl rfl)
theorem dJ4_equals_29 : decode cJ4_equals 29 = .ok (.aload_n 2, 1) := dk_44 (dk_at dksJ4_equals_1 7 rfl rfl)
theorem dJ4_equals_30 : decode cJ4_equals 30 = .ok (.getfield 15, 3) := dk_180 0 15 (dk_at dksJ4_equals_1 8 rfl rfl)
theorem dJ4_equals_33 : decode cJ4_equals 33 = .ok (.if_icmp .ne 21, 3) := dk_160 0 21 (dk_at dksJ4_equals_1 11 rfl rfl)
theorem dJ4_equals_36 : decode cJ4_equals 36 = .ok (.aload_n 0, 1) := dk_42 (dk_at dksJ4_equals_1 14 rfl rfl)
theorem dJ4_equals_37 : decode cJ4_equals 37 = .ok (.getfield 9, 3) := dk_180 0 9 (dk_at dksJ4_equals_1 15 rfl rfl)
theorem dJ4_equals_40 : decode cJ4_equals 40 = .ok (.aload_n 2, 1) := dk_44 (dk_at dksJ4_equals_1 18 rfl rfl)
theorem dJ4_equals_41 : decode cJ4_equals 41 = .ok (.getfield 9, 3) := dk_180 0 9 (dk_at dksJ4_equals_1 19 rfl rfl)
theorem dJ4_equals_44 : decode cJ4_equals 44 = .ok (.invokestatic 541, 3) := dk_184 2 29 (dk_at dksJ4_equals_2 0 rfl rfl)
theorem dJ4_equals_47 : decode cJ4_equals 47 = .ok (.ifCond .eq 7, 3) := dk_153 0 7 (dk_at dksJ4_equals_2 3 rfl rfl)
theorem dJ4_equals_50 : decode cJ4_equals 50 = .ok (.iconst 1, 1) := dk_4 (dk_at dksJ4_equals_2 6 rfl rfl)
theorem dJ4_equals_51 : decode cJ4_equals 51 = .ok (.goto 4, 3) := dk_167 0 4 (dk_at dksJ4_equals_2 7 rfl rfl)
theorem dJ4_equals_54 : decode cJ4_equals 54 = .ok (.iconst 0, 1) := dk_3 (dk_at dksJ4_equals_2 10 rfl rfl)
theorem dJ4_equals_55 : decode cJ4_equals 55 = .ok (.ireturn, 1) := dk_172 (dk_at dksJ4_equals_2 11 rfl rfl)
abbrev cJ4_hashCode : ByteArray := prog_30_method_78_code
def yJ4_hashCode : MethodName := ⟨RJ4, "hashCode", "()I"⟩
def dkwJ4_hashCode_2 : List UInt8 := [181, 0, 23, 167, 0, 8, 42, 27, 181, 0, 19, 27, 172]
abbrev dktJ4_hashCode_2 : List UInt8 := dkwJ4_hashCode_2 ++ []
def dkwJ4_hashCode_1 : List UInt8 := [180, 0, 9, 184, 2, 116, 167, 0, 10, 42, 180, 0, 9, 184, 2, 120, 60, 27, 154, 0, 11, 42, 4]
abbrev dktJ4_hashCode_1 : List UInt8 := dkwJ4_hashCode_1 ++ dktJ4_hashCode_2
def dkwJ4_hashCode_0 : List UInt8 := [42, 180, 0, 19, 60, 27, 154, 0, 52, 42, 180, 0, 23, 154, 0, 45, 42, 182, 1, 236, 153, 0, 13, 42]
abbrev dktJ4_hashCode_0 : List UInt8 := dkwJ4_hashCode_0 ++ dktJ4_hashCode_1
theorem dksJ4_hashCode_0 : cJ4_hashCode.data.toList.drop 0 = dktJ4_hashCode_0 := by decide +kernel
theorem dksJ4_hashCode_1 : cJ4_hashCode.data.toList.drop 24 = dktJ4_hashCode_1 := dk_seg dksJ4_hashCode_0 24 rfl rfl
theorem dksJ4_hashCode_2 : cJ4_hashCode.data.toList.drop 47 = dktJ4_hashCode_2 := dk_seg dksJ4_hashCode_1 23 rfl rfl
theorem dJ4_hashCode_0 : decode cJ4_hashCode 0 = .ok (.aload_n 0, 1) := dk_42 (dk_at dksJ4_hashCode_0 0 rfl rfl)
theorem dJ4_hashCode_1 : decode cJ4_hashCode 1 = .ok (.getfield 19, 3) := dk_180 0 19 (dk_at dksJ4_hashCode_0 1 rfl rfl)
theorem dJ4_hashCode_4 : decode cJ4_hashCode 4 = .ok (.istore_n 1, 1) := dk_60 (dk_at dksJ4_hashCode_0 4 rfl rfl)
theorem dJ4_hashCode_5 : decode cJ4_hashCode 5 = .ok (.iload_n 1, 1) := dk_27 (dk_at dksJ4_hashCode_0 5 rfl rfl)
theorem dJ4_hashCode_6 : decode cJ4_hashCode 6 = .ok (.ifCond .ne 52, 3) := dk_154 0 52 (dk_at dksJ4_hashCode_0 6 rfl rfl)
theorem dJ4_hashCode_9 : decode cJ4_hashCode 9 = .ok (.aload_n 0, 1) := dk_42 (dk_at dksJ4_hashCode_0 9 rfl rfl)
theorem dJ4_hashCode_10 : decode cJ4_hashCode 10 = .ok (.getfield 23, 3) := dk_180 0 23 (dk_at dksJ4_hashCode_0 10 rfl rfl)
theorem dJ4_hashCode_13 : decode cJ4_hashCode 13 = .ok (.ifCond .ne 45, 3) := dk_154 0 45 (dk_at dksJ4_hashCode_0 13 rfl rfl)
theorem dJ4_hashCode_16 : decode cJ4_hashCode 16 = .ok (.aload_n 0, 1) := dk_42 (dk_at dksJ4_hashCode_0 16 rfl rfl)
theorem dJ4_hashCode_17 : decode cJ4_hashCode 17 = .ok (.invokevirtual 492, 3) := dk_182 1 236 (dk_at dksJ4_hashCode_0 17 rfl rfl)
theorem dJ4_hashCode_20 : decode cJ4_hashCode 20 = .ok (.ifCond .eq 13, 3) := dk_153 0 13 (dk_at dksJ4_hashCode_0 20 rfl rfl)
theorem dJ4_hashCode_23 : decode cJ4_hashCode 23 = .ok (.aload_n 0, 1) := dk_42 (dk_at dksJ4_hashCode_0 23 rfl rfl)
theorem dJ4_hashCode_24 : decode cJ4_hashCode 24 = .ok (.getfield 9, 3) := dk_180 0 9 (dk_at dksJ4_hashCode_1 0 rfl rfl)
theorem dJ4_hashCode_27 : decode cJ4_hashCode 27 = .ok (.invokestatic 628, 3) := dk_184 2 116 (dk_at dksJ4_hashCode_1 3 rfl rfl)
theorem dJ4_hashCode_30 : decode cJ4_hashCode 30 = .ok (.goto 10, 3) := dk_167 0 10 (dk_at dksJ4_hashCode_1 6 rfl rfl)
theorem dJ4_hashCode_33 : decode cJ4_hashCode 33 = .ok (.aload_n 0, 1) := dk_42 (dk_at dksJ4_hashCode_1 9 rfl rfl)
theorem dJ4_hashCode_34 : decode cJ4_hashCode 34 = .ok (.getfield 9, 3) := dk_180 0 9 (dk_at dksJ4_hashCode_1 10 rfl rfl)
theorem dJ4_hashCode_37 : decode cJ4_hashCode 37 = .ok (.invokestatic 632, 3) := dk_184 2 120 (dk_at dksJ4_hashCode_1 13 rfl rfl)
theorem dJ4_hashCode_40 : decode cJ4_hashCode 40 = .ok (.istore_n 1, 1) := dk_60 (dk_at dksJ4_hashCode_1 16 rfl rfl)
theorem dJ4_hashCode_41 : decode cJ4_hashCode 41 = .ok (.iload_n 1, 1) := dk_27 (dk_at dksJ4_hashCode_1 17 rfl rfl)
theorem dJ4_hashCode_42 : decode cJ4_hashCode 42 = .ok (.ifCond .ne 11, 3) := dk_154 0 11 (dk_at dksJ4_hashCode_1 18 rfl rfl)
theorem dJ4_hashCode_45 : decode cJ4_hashCode 45 = .ok (.aload_n 0, 1) := dk_42 (dk_at dksJ4_hashCode_1 21 rfl rfl)
theorem dJ4_hashCode_46 : decode cJ4_hashCode 46 = .ok (.iconst 1, 1) := dk_4 (dk_at dksJ4_hashCode_1 22 rfl rfl)
theorem dJ4_hashCode_47 : decode cJ4_hashCode 47 = .ok (.putfield 23, 3) := dk_181 0 23 (dk_at dksJ4_hashCode_2 0 rfl rfl)
theorem dJ4_hashCode_50 : decode cJ4_hashCode 50 = .ok (.goto 8, 3) := dk_167 0 8 (dk_at dksJ4_hashCode_2 3 rfl rfl)
theorem dJ4_hashCode_53 : decode cJ4_hashCode 53 = .ok (.aload_n 0, 1) := dk_42 (dk_at dksJ4_hashCode_2 6 rfl rfl)
theorem dJ4_hashCode_54 : decode cJ4_hashCode 54 = .ok (.iload_n 1, 1) := dk_27 (dk_at dksJ4_hashCode_2 7 rfl rfl)
theorem dJ4_hashCode_55 : decode cJ4_hashCode 55 = .ok (.putfield 19, 3) := dk_181 0 19 (dk_at dksJ4_hashCode_2 8 rfl rfl)
theorem dJ4_hashCode_58 : decode cJ4_hashCode 58 = .ok (.iload_n 1, 1) := dk_27 (dk_at dksJ4_hashCode_2 11 rfl rfl)
theorem dJ4_hashCode_59 : decode cJ4_hashCode 59 = .ok (.ireturn, 1) := dk_172 (dk_at dksJ4_hashCode_2 12 rfl rfl)
theorem q121 : (Jvm.Cond.initialized "java/lang/String") ∈ lw_all := lw_g (lw_at lw_m1 6 rfl) rfl
theorem q195 : (Jvm.Cond.laysStatic "java/lang/String" "COMPACT_STRINGS" "Z") ∈ lw_tbl := lw_at lw_m1 80 rfl
theorem q206 : (Jvm.Cond.fieldLink "java/lang/String" (1048 : Nat) "java/lang/AbstractStringBuilder" "maybeLatin1" "Z") ∈ lw_all := lw_g (lw_at lw_m1 91 rfl) rfl
theorem q307 : (Jvm.Cond.instanceMethod ({ cls := "java/lang/String", name := "length", desc := "()I" } : Jvm.MethodName)) ∈ lw_all := lw_g (lw_at lw_m1 192 rfl) rfl
theorem q308 : (Jvm.Cond.selects "java/lang/String" ({ cls := "java/lang/String", name := "length", desc := "()I" } : Jvm.MethodName) ({ cls := "java/lang/String", name := "length", desc := "()I" } : Jvm.MethodName)) ∈ lw_all := lw_g (lw_at lw_m1 193 rfl) rfl
theorem q309 : (Jvm.Cond.code ({ cls := "java/lang/String", name := "length", desc := "()I" } : Jvm.MethodName) prog_30_method_54_code (1 : Nat) (Option.some Jvm.ClassFile.FieldType.int)) ∈ lw_all := lw_g (lw_at lw_m1 194 rfl) rfl
theorem q310 : (Jvm.Cond.methodLink "java/lang/String" (335 : Nat) ({ cls := "java/lang/String", name := "coder", desc := "()B" } : Jvm.MethodName)) ∈ lw_all := lw_g (lw_at lw_m1 195 rfl) rfl
theorem q311 : (Jvm.Cond.instanceMethod ({ cls := "java/lang/String", name := "coder", desc := "()B" } : Jvm.MethodName)) ∈ lw_all := lw_g (lw_at lw_m1 196 rfl) rfl
theorem q312 : (Jvm.Cond.selects "java/lang/String" ({ cls := "java/lang/String", name := "coder", desc := "()B" } : Jvm.MethodName) ({ cls := "java/lang/String", name := "coder", desc := "()B" } : Jvm.MethodName)) ∈ lw_all := lw_g (lw_at lw_m1 197 rfl) rfl
theorem q313 : (Jvm.Cond.code ({ cls := "java/lang/String", name := "coder", desc := "()B" } : Jvm.MethodName) prog_30_method_152_code (1 : Nat) (Option.some Jvm.ClassFile.FieldType.byte)) ∈ lw_all := lw_g (lw_at lw_m1 198 rfl) rfl
theorem q314 : (Jvm.Cond.fieldLink "java/lang/String" (38 : Nat) "java/lang/String" "COMPACT_STRINGS" "Z") ∈ lw_all := lw_g (lw_at lw_m1 199 rfl) rfl
theorem q316 : (Jvm.Cond.instanceMethod ({ cls := "java/lang/String", name := "charAt", desc := "(I)C" } : Jvm.MethodName)) ∈ lw_all := lw_g (lw_at lw_m1 201 rfl) rfl
theorem q317 : (Jvm.Cond.selects "java/lang/String" ({ cls := "java/lang/String", name := "charAt", desc := "(I)C" } : Jvm.MethodName) ({ cls := "java/lang/String", name := "charAt", desc := "(I)C" } : Jvm.MethodName)) ∈ lw_all := lw_g (lw_at lw_m1 202 rfl) rfl
theorem q318 : (Jvm.Cond.code ({ cls := "java/lang/String", name := "charAt", desc := "(I)C" } : Jvm.MethodName) prog_30_method_56_code (2 : Nat) (Option.some Jvm.ClassFile.FieldType.char)) ∈ lw_all := lw_g (lw_at lw_m1 203 rfl) rfl
theorem q319 : (Jvm.Cond.methodLink "java/lang/String" (492 : Nat) ({ cls := "java/lang/String", name := "isLatin1", desc := "()Z" } : Jvm.MethodName)) ∈ lw_all := lw_g (lw_at lw_m1 204 rfl) rfl
theorem q320 : (Jvm.Cond.instanceMethod ({ cls := "java/lang/String", name := "isLatin1", desc := "()Z" } : Jvm.MethodName)) ∈ lw_all := lw_g (lw_at lw_m1 205 rfl) rfl
theorem q321 : (Jvm.Cond.selects "java/lang/String" ({ cls := "java/lang/String", name := "isLatin1", desc := "()Z" } : Jvm.MethodName) ({ cls := "java/lang/String", name := "isLatin1", desc := "()Z" } : Jvm.MethodName)) ∈ lw_all := lw_g (lw_at lw_m1 206 rfl) rfl
theorem q322 : (Jvm.Cond.code ({ cls := "java/lang/String", name := "isLatin1", desc := "()Z" } : Jvm.MethodName) prog_30_method_154_code (1 : Nat) (Option.some Jvm.ClassFile.FieldType.boolean)) ∈ lw_all := lw_g (lw_at lw_m1 207 rfl) rfl
theorem q323 : (Jvm.Cond.methodLink "java/lang/String" (495 : Nat) ({ cls := "java/lang/StringLatin1", name := "charAt", desc := "([BI)C" } : Jvm.MethodName)) ∈ lw_all := lw_g (lw_at lw_m1 208 rfl) rfl
theorem q327 : (Jvm.Cond.static ({ cls := "java/lang/String", name := "checkIndex", desc := "(II)V" } : Jvm.MethodName)) ∈ lw_all := lw_g (lw_at lw_m1 212 rfl) rfl
theorem q328 : (Jvm.Cond.code ({ cls := "java/lang/String", name := "checkIndex", desc := "(II)V" } : Jvm.MethodName) prog_30_method_155_code (2 : Nat) (Option.none : Option Jvm.ClassFile.FieldType)) ∈ lw_all := lw_g (lw_at lw_m1 213 rfl) rfl
theorem q329 : (Jvm.Cond.fieldLink "java/lang/String" (1053 : Nat) "jdk/internal/util/Preconditions" "SIOOBE_FORMATTER" "Ljava/util/function/BiFunction;") ∈ lw_all := lw_g (lw_at lw_m1 214 rfl) rfl
theorem q331 : (Jvm.Cond.methodLink "java/lang/String" (1059 : Nat) ({ cls := "jdk/internal/util/Preconditions", name := "checkIndex", desc := "(IILjava/util/function/BiFunction;)I" } : Jvm.MethodName)) ∈ lw_all := lw_g (lw_at lw_m1 216 rfl) rfl
theorem q334 : (Jvm.Cond.methodLink "java/lang/String" (498 : Nat) ({ cls := "java/lang/StringUTF16", name := "charAt", desc := "([BI)C" } : Jvm.MethodName)) ∈ lw_all := lw_g (lw_at lw_m1 219 rfl) rfl
theorem q354 : (Jvm.Cond.instanceMethod ({ cls := "java/lang/String", name := "substring", desc := "(II)Ljava/lang/String;" } : Jvm.MethodName)) ∈ lw_all := lw_g (lw_at lw_m1 239 rfl) rfl
theorem q355 : (Jvm.Cond.selects "java/lang/String" ({ cls := "java/lang/String", name := "substring", desc := "(II)Ljava/lang/String;" } : Jvm.MethodName) ({ cls := "java/lang/String", name := "substring", desc := "(II)Ljava/lang/String;" } : Jvm.MethodName)) ∈ lw_all := lw_g (lw_at lw_m2 0 rfl) rfl
theorem q356 : (Jvm.Cond.code ({ cls := "java/lang/String", name := "substring", desc := "(II)Ljava/lang/String;" } : Jvm.MethodName) prog_30_method_92_code (5 : Nat) (Option.some (Jvm.ClassFile.FieldType.object "java/lang/String"))) ∈ lw_all := lw_g (lw_at lw_m2 1 rfl) rfl
theorem q357 : (Jvm.Cond.methodLink "java/lang/String" (505 : Nat) ({ cls := "java/lang/String", name := "length", desc := "()I" } : Jvm.MethodName)) ∈ lw_all := lw_g (lw_at lw_m2 2 rfl) rfl
theorem q358 : (Jvm.Cond.methodLink "java/lang/String" (521 : Nat) ({ cls := "java/lang/String", name := "checkBoundsBeginEnd", desc := "(III)V" } : Jvm.MethodName)) ∈ lw_all := lw_g (lw_at lw_m2 3 rfl) rfl
theorem q359 : (Jvm.Cond.static ({ cls := "java/lang/String", name := "checkBoundsBeginEnd", desc := "(III)V" } : Jvm.MethodName)) ∈ lw_all := lw_g (lw_at lw_m2 4 rfl) rfl
theorem q360 : (Jvm.Cond.code ({ cls := "java/lang/String", name := "checkBoundsBeginEnd", desc := "(III)V" } : Jvm.MethodName) prog_30_method_158_code (3 : Nat) (Option.none : Option Jvm.ClassFile.FieldType)) ∈ lw_all := lw_g (lw_at lw_m2 5 rfl) rfl
theorem q361 : (Jvm.Cond.methodLink "java/lang/String" (1062 : Nat) ({ cls := "jdk/internal/util/Preconditions", name := "checkFromToIndex", desc := "(IIILjava/util/function/BiFunction;)I" } : Jvm.MethodName)) ∈ lw_all := lw_g (lw_at lw_m2 6 rfl) rfl
theorem q364 : (Jvm.Cond.methodLink "java/lang/String" (685 : Nat) ({ cls := "java/lang/StringLatin1", name := "newString", desc := "([BII)Ljava/lang/String;" } : Jvm.MethodName)) ∈ lw_all := lw_g (lw_at lw_m2 9 rfl) rfl
theorem q369 : (Jvm.Cond.instantiable "java/lang/String" (4 : Nat)) ∈ lw_all := lw_g (lw_at lw_m2 14 rfl) rfl
theorem q537 : (Jvm.Cond.static ({ cls := "java/lang/String", name := "checkBoundsOffCount", desc := "(III)I" } : Jvm.MethodName)) ∈ lw_all := lw_g (lw_at lw_m2 182 rfl) rfl
theorem q538 : (Jvm.Cond.code ({ cls := "java/lang/String", name := "checkBoundsOffCount", desc := "(III)I" } : Jvm.MethodName) prog_30_method_157_code (3 : Nat) (Option.some Jvm.ClassFile.FieldType.int)) ∈ lw_all := lw_g (lw_at lw_m2 183 rfl) rfl
theorem q539 : (Jvm.Cond.methodLink "java/lang/String" (1065 : Nat) ({ cls := "jdk/internal/util/Preconditions", name := "checkFromIndexSize", desc := "(IIILjava/util/function/BiFunction;)I" } : Jvm.MethodName)) ∈ lw_all := lw_g (lw_at lw_m2 184 rfl) rfl
theorem q543 : (Jvm.Cond.instanceMethod ({ cls := "java/lang/String", name := "getBytes", desc := "([BIB)V" } : Jvm.MethodName)) ∈ lw_all := lw_g (lw_at lw_m2 188 rfl) rfl
theorem q544 : (Jvm.Cond.selects "java/lang/String" ({ cls := "java/lang/String", name := "getBytes", desc := "([BIB)V" } : Jvm.MethodName) ({ cls := "java/lang/String", name := "getBytes", desc := "([BIB)V" } : Jvm.MethodName)) ∈ lw_all := lw_g (lw_at lw_m2 189 rfl) rfl
theorem q545 : (Jvm.Cond.code ({ cls := "java/lang/String", name := "getBytes", desc := "([BIB)V" } : Jvm.MethodName) prog_30_method_147_code (4 : Nat) (Option.none : Option Jvm.ClassFile.FieldType)) ∈ lw_all := lw_g (lw_at lw_m2 190 rfl) rfl
theorem q546 : (Jvm.Cond.methodLink "java/lang/String" (212 : Nat) ({ cls := "java/lang/System", name := "arraycopy", desc := "(Ljava/lang/Object;ILjava/lang/Object;II)V" } : Jvm.MethodName)) ∈ lw_all := lw_g (lw_at lw_m2 191 rfl) rfl
theorem q547 : (Jvm.Cond.methodLink "java/lang/String" (106 : Nat) ({ cls := "java/lang/StringLatin1", name := "inflate", desc := "([BI[BII)V" } : Jvm.MethodName)) ∈ lw_all := lw_g (lw_at lw_m2 192 rfl) rfl
theorem q554 : (Jvm.Cond.instanceMethod ({ cls := "java/lang/String", name := "<init>", desc := "(Ljava/lang/StringBuilder;)V" } : Jvm.MethodName)) ∈ lw_all := lw_g (lw_at lw_m2 199 rfl) rfl
theorem q555 : (Jvm.Cond.code ({ cls := "java/lang/String", name := "<init>", desc := "(Ljava/lang/StringBuilder;)V" } : Jvm.MethodName) prog_30_method_53_code (2 : Nat) (Option.none : Option Jvm.ClassFile.FieldType)) ∈ lw_all := lw_g (lw_at lw_m2 200 rfl) rfl
theorem q556 : (Jvm.Cond.methodLink "java/lang/String" (489 : Nat) ({ cls := "java/lang/String", name := "<init>", desc := "(Ljava/lang/AbstractStringBuilder;Ljava/lang/Void;)V" } : Jvm.MethodName)) ∈ lw_all := lw_g (lw_at lw_m2 201 rfl) rfl
theorem q557 : (Jvm.Cond.instanceMethod ({ cls := "java/lang/String", name := "<init>", desc := "(Ljava/lang/AbstractStringBuilder;Ljava/lang/Void;)V" } : Jvm.MethodName)) ∈ lw_all := lw_g (lw_at lw_m2 202 rfl) rfl
theorem q558 : (Jvm.Cond.code ({ cls := "java/lang/String", name := "<init>", desc := "(Ljava/lang/AbstractStringBuilder;Ljava/lang/Void;)V" } : Jvm.MethodName) prog_30_method_150_code (5 : Nat) (Option.none : Option Jvm.ClassFile.FieldType)) ∈ lw_all := lw_g (lw_at lw_m2 203 rfl) rfl
theorem q559 : (Jvm.Cond.methodLink "java/lang/String" (1 : Nat) ({ cls := "java/lang/Object", name := "<init>", desc := "()V" } : Jvm.MethodName)) ∈ lw_all := lw_g (lw_at lw_m2 204 rfl) rfl
theorem q560 : (Jvm.Cond.methodLink "java/lang/String" (552 : Nat) ({ cls := "java/lang/AbstractStringBuilder", name := "getValue", desc := "()[B" } : Jvm.MethodName)) ∈ lw_all := lw_g (lw_at lw_m2 205 rfl) rfl
theorem q565 : (Jvm.Cond.methodLink "java/lang/String" (549 : Nat) ({ cls := "java/lang/AbstractStringBuilder", name := "length", desc := "()I" } : Jvm.MethodName)) ∈ lw_all := lw_g (lw_at lw_m2 210 rfl) rfl
theorem q573 : (Jvm.Cond.methodLink "java/lang/String" (1047 : Nat) ({ cls := "java/lang/AbstractStringBuilder", name := "isLatin1", desc := "()Z" } : Jvm.MethodName)) ∈ lw_all := lw_g (lw_at lw_m2 218 rfl) rfl
theorem q574 : (Jvm.Cond.methodLink "java/lang/String" (54 : Nat) ({ cls := "java/util/Arrays", name := "copyOfRange", desc := "([BII)[B" } : Jvm.MethodName)) ∈ lw_all := lw_g (lw_at lw_m2 219 rfl) rfl
theorem q575 : (Jvm.Cond.methodLink "java/lang/String" (1051 : Nat) ({ cls := "java/lang/StringUTF16", name := "compress", desc := "([BII)[B" } : Jvm.MethodName)) ∈ lw_all := lw_g (lw_at lw_m2 220 rfl) rfl
theorem q582 : (Jvm.Cond.methodLink "java/lang/String" (47 : Nat) ({ cls := "java/lang/StringUTF16", name := "coderFromArrayLen", desc := "([BI)B" } : Jvm.MethodName)) ∈ lw_all := lw_g (lw_at lw_m2 227 rfl) rfl
theorem q585 : (Jvm.Cond.fieldLink "java/lang/String" (9 : Nat) "java/lang/String" "value" "[B") ∈ lw_all := lw_g (lw_at lw_m2 230 rfl) rfl
theorem q586 : (Jvm.Cond.fieldLink "java/lang/String" (15 : Nat) "java/lang/String" "coder" "B") ∈ lw_all := lw_g (lw_at lw_m2 231 rfl) rfl
theorem q587 : (Jvm.Cond.fieldLink "java/lang/String" (19 : Nat) "java/lang/String" "hash" "I") ∈ lw_all := lw_g (lw_at lw_m2 232 rfl) rfl
theorem q588 : (Jvm.Cond.fieldLink "java/lang/String" (23 : Nat) "java/lang/String" "hashIsZero" "Z") ∈ lw_all := lw_g (lw_at lw_m2 233 rfl) rfl
theorem q589 : (Jvm.Cond.laysFinal "java/lang/String" "java/lang/String" "value" "[B") ∈ lw_all := lw_g (lw_at lw_m2 234 rfl) rfl
theorem q590 : (Jvm.Cond.soleField "java/lang/String" "value") ∈ lw_all := lw_g (lw_at lw_m2 235 rfl) rfl
theorem q591 : (Jvm.Cond.laysFinal "java/lang/String" "java/lang/String" "coder" "B") ∈ lw_all := lw_g (lw_at lw_m2 236 rfl) rfl
theorem q592 : (Jvm.Cond.soleField "java/lang/String" "coder") ∈ lw_all := lw_g (lw_at lw_m2 237 rfl) rfl
theorem q593 : (Jvm.Cond.lays "java/lang/String" "java/lang/String" "hash" "I") ∈ lw_all := lw_g (lw_at lw_m2 238 rfl) rfl
theorem q594 : (Jvm.Cond.soleField "java/lang/String" "hash") ∈ lw_all := lw_g (lw_at lw_m2 239 rfl) rfl
theorem q595 : (Jvm.Cond.lays "java/lang/String" "java/lang/String" "hashIsZero" "Z") ∈ lw_all := lw_g (lw_at lw_m3 0 rfl) rfl
theorem q596 : (Jvm.Cond.soleField "java/lang/String" "hashIsZero") ∈ lw_all := lw_g (lw_at lw_m3 1 rfl) rfl
theorem q597 : (Jvm.Cond.superclass "java/lang/String" "java/lang/Object") ∈ lw_all := lw_g (lw_at lw_m3 2 rfl) rfl
theorem q624 : (Jvm.Cond.instanceMethod ({ cls := "java/lang/String", name := "<init>", desc := "([BB)V" } : Jvm.MethodName)) ∈ lw_all := lw_g (lw_at lw_m3 29 rfl) rfl
theorem q625 : (Jvm.Cond.code ({ cls := "java/lang/String", name := "<init>", desc := "([BB)V" } : Jvm.MethodName) prog_30_method_151_code (3 : Nat) (Option.none : Option Jvm.ClassFile.FieldType)) ∈ lw_all := lw_g (lw_at lw_m3 30 rfl) rfl
theorem q626 : (Jvm.Cond.methodLink "java/lang/String" (689 : Nat) ({ cls := "java/lang/StringUTF16", name := "newString", desc := "([BII)Ljava/lang/String;" } : Jvm.MethodName)) ∈ lw_all := lw_g (lw_at lw_m3 31 rfl) rfl
theorem q688 : (Jvm.Cond.instanceMethod ({ cls := "java/lang/String", name := "equals", desc := "(Ljava/lang/Object;)Z" } : Jvm.MethodName)) ∈ lw_all := lw_g (lw_at lw_m3 93 rfl) rfl
theorem q689 : (Jvm.Cond.selects "java/lang/String" ({ cls := "java/lang/String", name := "equals", desc := "(Ljava/lang/Object;)Z" } : Jvm.MethodName) ({ cls := "java/lang/String", name := "equals", desc := "(Ljava/lang/Object;)Z" } : Jvm.MethodName)) ∈ lw_all := lw_g (lw_at lw_m3 94 rfl) rfl
theorem q690 : (Jvm.Cond.code ({ cls := "java/lang/String", name := "equals", desc := "(Ljava/lang/Object;)Z" } : Jvm.MethodName) prog_30_method_66_code (3 : Nat) (Option.some Jvm.ClassFile.FieldType.boolean)) ∈ lw_all := lw_g (lw_at lw_m3 95 rfl) rfl
theorem q691 : (Jvm.Cond.classLink "java/lang/String" (10 : Nat) "java/lang/String") ∈ lw_all := lw_g (lw_at lw_m3 96 rfl) rfl
theorem q692 : (Jvm.Cond.methodLink "java/lang/String" (541 : Nat) ({ cls := "java/lang/StringLatin1", name := "equals", desc := "([B[B)Z" } : Jvm.MethodName)) ∈ lw_all := lw_g (lw_at lw_m3 97 rfl) rfl
theorem q746 : (Jvm.Cond.instanceMethod ({ cls := "java/lang/String", name := "hashCode", desc := "()I" } : Jvm.MethodName)) ∈ lw_all := lw_g (lw_at lw_m3 151 rfl) rfl
theorem q747 : (Jvm.Cond.selects "java/lang/String" ({ cls := "java/lang/String", name := "hashCode", desc := "()I" } : Jvm.MethodName) ({ cls := "java/lang/String", name := "hashCode", desc := "()I" } : Jvm.MethodName)) ∈ lw_all := lw_g (lw_at lw_m3 152 rfl) rfl
theorem q748 : (Jvm.Cond.code ({ cls := "java/lang/String", name := "hashCode", desc := "()I" } : Jvm.MethodName) prog_30_method_78_code (2 : Nat) (Option.some Jvm.ClassFile.FieldType.int)) ∈ lw_all := lw_g (lw_at lw_m3 153 rfl) rfl
theorem q749 : (Jvm.Cond.methodLink "java/lang/String" (628 : Nat) ({ cls := "java/lang/StringLatin1", name := "hashCode", desc := "([B)I" } : Jvm.MethodName)) ∈ lw_all := lw_g (lw_at lw_m3 154 rfl) rfl
theorem q798 : (Jvm.Cond.methodLink "java/lang/String" (632 : Nat) ({ cls := "java/lang/StringUTF16", name := "hashCode", desc := "([B)I" } : Jvm.MethodName)) ∈ lw_all := lw_g (lw_at lw_m3 203 rfl) rfl
theorem q888 : (Jvm.Cond.selects "java/lang/String" ({ cls := "java/lang/Object", name := "getClass", desc := "()Ljava/lang/Class;" } : Jvm.MethodName) ({ cls := "java/lang/Object", name := "getClass", desc := "()Ljava/lang/Class;" } : Jvm.MethodName)) ∈ lw_all := lw_g (lw_at lw_m4 53 rfl) rfl
theorem q2726 : (Jvm.Cond.castable "java/lang/String" "java/lang/Object") ∈ lw_tbl := lw_at lw_m11 211 rfl
theorem in_J4 : ∀ w ∈ wsJ40, w ∈ lw_all := lw_in wsJ40 [589, 591, 593, 595] (by decide +kernel) (by decide +kernel)

/-! java/lang/StringUTF16 -/
set_option maxRecDepth 100000
def RJ5 : String := "java/lang/StringUTF16"
abbrev cJ5_newBytesFor : ByteArray := prog_34_method_2_code
def yJ5_newBytesFor : MethodName := ⟨RJ5, "newBytesFor", "(I)[B"⟩
def dkwJ5_newBytesFor_0 : List UInt8 := [26, 184, 0, 11, 188, 8, 176]
abbrev dktJ5_newBytesFor_0 : List UInt8 := dkwJ5_newBytesFor_0 ++ []
theorem dksJ5_newBytesFor_0 : cJ5_newBytesFor.data.toList.drop 0 = dktJ5_newBytesFor_0 := by decide +kernel
theorem dJ5_newBytesFor_0 : decode cJ5_newBytesFor 0 = .ok (.iload_n 0, 1) := dk_26 (dk_at dksJ5_newBytesFor_0 0 rfl rfl)
theorem dJ5_newBytesFor_1 : decode cJ5_newBytesFor 1 = .ok (.invokestatic 11, 3) := dk_184 0 11 (dk_at dksJ5_newBytesFor_0 1 rfl rfl)
theorem dJ5_newBytesFor_4 : decode cJ5_newBytesFor 4 = .ok (.newarray .byte, 2) := dk_188_8 (dk_at dksJ5_newBytesFor_0 4 rfl rfl)
theorem dJ5_newBytesFor_6 : decode cJ5_newBytesFor 6 = .ok (.areturn, 1) := dk_176 (dk_at dksJ5_newBytesFor_0 6 rfl rfl)
abbrev cJ5_newBytesLength : ByteArray := prog_34_method_3_code
def yJ5_newBytesLength : MethodName := ⟨RJ5, "newBytesLength", "(I)I"⟩
def dkwJ5_newBytesLength_2 : List UInt8 := [182, 0, 32, 182, 0, 37, 183, 0, 41, 191, 26, 4, 120, 172]
abbrev dktJ5_newBytesLength_2 : List UInt8 := dkwJ5_newBytesLength_2 ++ []
def dkwJ5_newBytesLength_1 : List UInt8 := [187, 0, 23, 89, 183, 0, 25, 18, 26, 182, 0, 28, 26, 182, 0, 32, 18, 35, 182, 0, 28, 18, 20]
abbrev dktJ5_newBytesLength_1 : List UInt8 := dkwJ5_newBytesLength_1 ++ dktJ5_newBytesLength_2
def dkwJ5_newBytesLength_0 : List UInt8 := [26, 156, 0, 11, 187, 0, 17, 89, 183, 0, 19, 191, 26, 18, 20, 161, 0, 40, 187, 0, 21, 89]
abbrev dktJ5_newBytesLength_0 : List UInt8 := dkwJ5_newBytesLength_0 ++ dktJ5_newBytesLength_1
theorem dksJ5_newBytesLength_0 : cJ5_newBytesLength.data.toList.drop 0 = dktJ5_newBytesLength_0 := by decide +kernel
theorem dksJ5_newBytesLength_1 : cJ5_newBytesLength.data.toList.drop 22 = dktJ5_newBytesLength_1 := dk_seg dksJ5_newBytesLength_0 22 rfl rfl
theorem dksJ5_newBytesLength_2 : cJ5_newBytesLength.data.toList.drop 45 = dktJ5_newBytesLength_2 := dk_seg dksJ5_newBytesLength_1 23 rfl rfl
theorem dJ5_newBytesLength_0 : decode cJ5_newBytesLength 0 = .ok (.iload_n 0, 1) := dk_26 (dk_at dksJ5_newBytesLength_0 0 rfl rfl)
theorem dJ5_newBytesLength_1 : decode cJ5_newBytesLength 1 = .ok (.ifCond .ge 11, 3) := dk_156 0 11 (dk_at dksJ5_newBytesLength_0 1 rfl rfl)
theorem dJ5_newBytesLength_4 : decode cJ5_newBytesLength 4 = .ok (.new 17, 3) := dk_187 0 17 (dk_at dksJ5_newBytesLength_0 4 rfl rfl)
theorem dJ5_newBytesLength_7 : decode cJ5_newBytesLength 7 = .ok (.dup, 1) := dk_89 (dk_at dksJ5_newBytesLength_0 7 rfl rfl)
theorem dJ5_newBytesLength_8 : decode cJ5_newBytesLength 8 = .ok (.invokespecial 19, 3) := dk_183 0 19 (dk_at dksJ5_newBytesLength_0 8 rfl rfl)
theorem dJ5_newBytesLength_11 : decode cJ5_newBytesLength 11 = .ok (.athrow, 1) := dk_191 (dk_at dksJ5_newBytesLength_0 11 rfl rfl)
theorem dJ5_newBytesLength_12 : decode cJ5_newBytesLength 12 = .ok (.iload_n 0, 1) := dk_26 (dk_at dksJ5_newBytesLength_0 12 rfl rfl)
theorem dJ5_newBytesLength_13 : decode cJ5_newBytesLength 13 = .ok (.ldc 20, 2) := dk_18 20 (dk_at dksJ5_newBytesLength_0 13 rfl rfl)
theorem dJ5_newBytesLength_15 : decode cJ5_newBytesLength 15 = .ok (.if_icmp .lt 40, 3) := dk_161 0 40 (dk_at dksJ5_newBytesLength_0 15 rfl rfl)
theorem dJ5_newBytesLength_18 : decode cJ5_newBytesLength 18 = .ok (.new 21, 3) := dk_187 0 21 (dk_at dksJ5_newBytesLength_0 18 rfl rfl)
theorem dJ5_newBytesLength_21 : decode cJ5_newBytesLength 21 = .ok (.dup, 1) := dk_89 (dk_at dksJ5_newBytesLength_0 21 rfl rfl)
theorem dJ5_newBytesLength_22 : decode cJ5_newBytesLength 22 = .ok (.new 23, 3) := dk_187 0 23 (dk_at dksJ5_newBytesLength_1 0 rfl rfl)
theorem dJ5_newBytesLength_25 : decode cJ5_newBytesLength 25 = .ok (.dup, 1) := dk_89 (dk_at dksJ5_newBytesLength_1 3 rfl rfl)
theorem dJ5_newBytesLength_26 : decode cJ5_newBytesLength 26 = .ok (.invokespecial 25, 3) := dk_183 0 25 (dk_at dksJ5_newBytesLength_1 4 rfl rfl)
theorem dJ5_newBytesLength_29 : decode cJ5_newBytesLength 29 = .ok (.ldc 26, 2) := dk_18 26 (dk_at dksJ5_newBytesLength_1 7 rfl rfl)
theorem dJ5_newBytesLength_31 : decode cJ5_newBytesLength 31 = .ok (.invokevirtual 28, 3) := dk_182 0 28 (dk_at dksJ5_newBytesLength_1 9 rfl rfl)
theorem dJ5_newBytesLength_34 : decode cJ5_newBytesLength 34 = .ok (.iload_n 0, 1) := dk_26 (dk_at dksJ5_newBytesLength_1 12 rfl rfl)
theorem dJ5_newBytesLength_35 : decode cJ5_newBytesLength 35 = .ok (.invokevirtual 32, 3) := dk_182 0 32 (dk_at dksJ5_newBytesLength_1 13 rfl rfl)
theorem dJ5_newBytesLength_38 : decode cJ5_newBytesLength 38 = .ok (.ldc 35, 2) := dk_18 35 (dk_at dksJ5_newBytesLength_1 16 rfl rfl)
theorem dJ5_newBytesLength_40 : decode cJ5_newBytesLength 40 = .ok (.invokevirtual 28, 3) := dk_182 0 28 (dk_at dksJ5_newBytesLength_1 18 rfl rfl)
theorem dJ5_newBytesLength_43 : decode cJ5_newBytesLength 43 = .ok (.ldc 20, 2) := dk_18 20 (dk_at dksJ5_newBytesLength_1 21 rfl rfl)
theorem dJ5_newBytesLength_45 : decode cJ5_newBytesLength 45 = .ok (.invokevirtual 32, 3) := dk_182 0 32 (dk_at dksJ5_newBytesLength_2 0 rfl rfl)
theorem dJ5_newBytesLength_48 : decode cJ5_newBytesLength 48 = .ok (.invokevirtual 37, 3) := dk_182 0 37 (dk_at dksJ5_newBytesLength_2 3 rfl rfl)
theorem dJ5_newBytesLength_51 : decode cJ5_newBytesLength 51 = .ok (.invokespecial 41, 3) := dk_183 0 41 (dk_at dksJ5_newBytesLength_2 6 rfl rfl)
theorem dJ5_newBytesLength_54 : decode cJ5_newBytesLength 54 = .ok (.athrow, 1) := dk_191 (dk_at dksJ5_newBytesLength_2 9 rfl rfl)
theorem dJ5_newBytesLength_55 : decode cJ5_newBytesLength 55 = .ok (.iload_n 0, 1) := dk_26 (dk_at dksJ5_newBytesLength_2 10 rfl rfl)
theorem dJ5_newBytesLength_56 : decode cJ5_newBytesLength 56 = .ok (.iconst 1, 1) := dk_4 (dk_at dksJ5_newBytesLength_2 11 rfl rfl)
theorem dJ5_newBytesLength_57 : decode cJ5_newBytesLength 57 = .ok (.ishl, 1) := dk_120 (dk_at dksJ5_newBytesLength_2 12 rfl rfl)
theorem dJ5_newBytesLength_58 : decode cJ5_newBytesLength 58 = .ok (.ireturn, 1) := dk_172 (dk_at dksJ5_newBytesLength_2 13 rfl rfl)
abbrev cJ5_charAt : ByteArray := prog_34_method_83_code
def yJ5_charAt : MethodName := ⟨RJ5, "charAt", "([BI)C"⟩
def dkwJ5_charAt_0 : List UInt8 := [27, 42, 184, 0, 67, 42, 27, 184, 0, 71, 172]
abbrev dktJ5_charAt_0 : List UInt8 := dkwJ5_charAt_0 ++ []
theorem dksJ5_charAt_0 : cJ5_charAt.data.toList.drop 0 = dktJ5_charAt_0 := by decide +kernel
theorem dJ5_charAt_0 : decode cJ5_charAt 0 = .ok (.iload_n 1, 1) := dk_27 (dk_at dksJ5_charAt_0 0 rfl rfl)
theorem dJ5_charAt_1 : decode cJ5_charAt 1 = .ok (.aload_n 0, 1) := dk_42 (dk_at dksJ5_charAt_0 1 rfl rfl)
theorem dJ5_charAt_2 : decode cJ5_charAt 2 = .ok (.invokestatic 67, 3) := dk_184 0 67 (dk_at dksJ5_charAt_0 2 rfl rfl)
theorem dJ5_charAt_5 : decode cJ5_charAt 5 = .ok (.aload_n 0, 1) := dk_42 (dk_at dksJ5_charAt_0 5 rfl rfl)
theorem dJ5_charAt_6 : decode cJ5_charAt 6 = .ok (.iload_n 1, 1) := dk_27 (dk_at dksJ5_charAt_0 6 rfl rfl)
theorem dJ5_charAt_7 : decode cJ5_charAt 7 = .ok (.invokestatic 71, 3) := dk_184 0 71 (dk_at dksJ5_charAt_0 7 rfl rfl)
theorem dJ5_charAt_10 : decode cJ5_charAt 10 = .ok (.ireturn, 1) := dk_172 (dk_at dksJ5_charAt_0 10 rfl rfl)
abbrev cJ5_checkIndex : ByteArray := prog_34_method_91_code
def yJ5_checkIndex : MethodName := ⟨RJ5, "checkIndex", "(I[B)V"⟩
def dkwJ5_checkIndex_0 : List UInt8 := [26, 43, 184, 0, 48, 184, 1, 158, 177]
abbrev dktJ5_checkIndex_0 : List UInt8 := dkwJ5_checkIndex_0 ++ []
theorem dksJ5_checkIndex_0 : cJ5_checkIndex.data.toList.drop 0 = dktJ5_checkIndex_0 := by decide +kernel
theorem dJ5_checkIndex_0 : decode cJ5_checkIndex 0 = .ok (.iload_n 0, 1) := dk_26 (dk_at dksJ5_checkIndex_0 0 rfl rfl)
theorem dJ5_checkIndex_1 : decode cJ5_checkIndex 1 = .ok (.aload_n 1, 1) := dk_43 (dk_at dksJ5_checkIndex_0 1 rfl rfl)
theorem dJ5_checkIndex_2 : decode cJ5_checkIndex 2 = .ok (.invokestatic 48, 3) := dk_184 0 48 (dk_at dksJ5_checkIndex_0 2 rfl rfl)
theorem dJ5_checkIndex_5 : decode cJ5_checkIndex 5 = .ok (.invokestatic 414, 3) := dk_184 1 158 (dk_at dksJ5_checkIndex_0 5 rfl rfl)
theorem dJ5_checkIndex_8 : decode cJ5_checkIndex 8 = .ok (.return_, 1) := dk_177 (dk_at dksJ5_checkIndex_0 8 rfl rfl)
abbrev cJ5_length : ByteArray := prog_34_method_6_code
def yJ5_length : MethodName := ⟨RJ5, "length", "([B)I"⟩
def dkwJ5_length_0 : List UInt8 := [42, 190, 4, 122, 172]
abbrev dktJ5_length_0 : List UInt8 := dkwJ5_length_0 ++ []
theorem dksJ5_length_0 : cJ5_length.data.toList.drop 0 = dktJ5_length_0 := by decide +kernel
theorem dJ5_length_0 : decode cJ5_length 0 = .ok (.aload_n 0, 1) := dk_42 (dk_at dksJ5_length_0 0 rfl rfl)
theorem dJ5_length_1 : decode cJ5_length 1 = .ok (.arraylength, 1) := dk_190 (dk_at dksJ5_length_0 1 rfl rfl)
theorem dJ5_length_2 : decode cJ5_length 2 = .ok (.iconst 1, 1) := dk_4 (dk_at dksJ5_length_0 2 rfl rfl)
theorem dJ5_length_3 : decode cJ5_length 3 = .ok (.ishr, 1) := dk_122 (dk_at dksJ5_length_0 3 rfl rfl)
theorem dJ5_length_4 : decode cJ5_length 4 = .ok (.ireturn, 1) := dk_172 (dk_at dksJ5_length_0 4 rfl rfl)
abbrev cJ5_getChar : ByteArray := prog_34_method_5_code
def yJ5_getChar : MethodName := ⟨RJ5, "getChar", "([BI)C"⟩
def dkwJ5_getChar_2 : List UInt8 := [51, 17, 0, 255, 126, 178, 0, 63, 120, 128, 146, 172]
abbrev dktJ5_getChar_2 : List UInt8 := dkwJ5_getChar_2 ++ []
def dkwJ5_getChar_1 : List UInt8 := [183, 0, 56, 191, 27, 4, 120, 60, 42, 27, 132, 1, 1, 51, 17, 0, 255, 126, 178, 0, 59, 120, 42, 27]
abbrev dktJ5_getChar_1 : List UInt8 := dkwJ5_getChar_1 ++ dktJ5_getChar_2
def dkwJ5_getChar_0 : List UInt8 := [178, 0, 44, 154, 0, 25, 27, 155, 0, 11, 27, 42, 184, 0, 48, 161, 0, 13, 187, 0, 52, 89, 18, 54]
abbrev dktJ5_getChar_0 : List UInt8 := dkwJ5_getChar_0 ++ dktJ5_getChar_1
theorem dksJ5_getChar_0 : cJ5_getChar.data.toList.drop 0 = dktJ5_getChar_0 := by decide +kernel
theorem dksJ5_getChar_1 : cJ5_getChar.data.toList.drop 24 = dktJ5_getChar_1 := dk_seg dksJ5_getChar_0 24 rfl rfl
theorem dksJ5_getChar_2 : cJ5_getChar.data.toList.drop 48 = dktJ5_getChar_2 := dk_seg dksJ5_getChar_1 24 rfl rfl
theorem dJ5_getChar_0 : decode cJ5_getChar 0 = .ok (.getstatic 44, 3) := dk_178 0 44 (dk_at dksJ5_getChar_0 0 rfl rfl)
theorem dJ5_getChar_3 : decode cJ5_getChar 3 = .ok (.ifCond .ne 25, 3) := dk_154 0 25 (dk_at dksJ5_getChar_0 3 rfl rfl)
theorem dJ5_getChar_6 : decode cJ5_getChar 6 = .ok (.iload_n 1, 1) := dk_27 (dk_at dksJ5_getChar_0 6 rfl rfl)
theorem dJ5_getChar_7 : decode cJ5_getChar 7 = .ok (.ifCond .lt 11, 3) := dk_155 0 11 (dk_at dksJ5_getChar_0 7 rfl rfl)
theorem dJ5_getChar_10 : decode cJ5_getChar 10 = .ok (.iload_n 1, 1) := dk_27 (dk_at dksJ5_getChar_0 10 rfl rfl)
theorem dJ5_getChar_11 : decode cJ5_getChar 11 = .ok (.aload_n 0, 1) := dk_42 (dk_at dksJ5_getChar_0 11 rfl rfl)
theorem dJ5_getChar_12 : decode cJ5_getChar 12 = .ok (.invokestatic 48, 3) := dk_184 0 48 (dk_at dksJ5_getChar_0 12 rfl rfl)
theorem dJ5_getChar_15 : decode cJ5_getChar 15 = .ok (.if_icmp .lt 13, 3) := dk_161 0 13 (dk_at dksJ5_getChar_0 15 rfl rfl)
theorem dJ5_getChar_18 : decode cJ5_getChar 18 = .ok (.new 52, 3) := dk_187 0 52 (dk_at dksJ5_getChar_0 18 rfl rfl)
theorem dJ5_getChar_21 : decode cJ5_getChar 21 = .ok (.dup, 1) := dk_89 (dk_at dksJ5_getChar_0 21 rfl rfl)
theorem dJ5_getChar_22 : decode cJ5_getChar 22 = .ok (.ldc 54, 2) := dk_18 54 (dk_at dksJ5_getChar_0 22 rfl rfl)
theorem dJ5_getChar_24 : decode cJ5_getChar 24 = .ok (.invokespecial 56, 3) := dk_183 0 56 (dk_at dksJ5_getChar_1 0 rfl rfl)
theorem dJ5_getChar_27 : decode cJ5_getChar 27 = .ok (.athrow, 1) := dk_191 (dk_at dksJ5_getChar_1 3 rfl rfl)
theorem dJ5_getChar_28 : decode cJ5_getChar 28 = .ok (.iload_n 1, 1) := dk_27 (dk_at dksJ5_getChar_1 4 rfl rfl)
theorem dJ5_getChar_29 : decode cJ5_getChar 29 = .ok (.iconst 1, 1) := dk_4 (dk_at dksJ5_getChar_1 5 rfl rfl)
theorem dJ5_getChar_30 : decode cJ5_getChar 30 = .ok (.ishl, 1) := dk_120 (dk_at dksJ5_getChar_1 6 rfl rfl)
theorem dJ5_getChar_31 : decode cJ5_getChar 31 = .ok (.istore_n 1, 1) := dk_60 (dk_at dksJ5_getChar_1 7 rfl rfl)
theorem dJ5_getChar_32 : decode cJ5_getChar 32 = .ok (.aload_n 0, 1) := dk_42 (dk_at dksJ5_getChar_1 8 rfl rfl)
theorem dJ5_getChar_33 : decode cJ5_getChar 33 = .ok (.iload_n 1, 1) := dk_27 (dk_at dksJ5_getChar_1 9 rfl rfl)
theorem dJ5_getChar_34 : decode cJ5_getChar 34 = .ok (.iinc 1 1, 3) := dk_132 1 1 (dk_at dksJ5_getChar_1 10 rfl rfl)
theorem dJ5_getChar_37 : decode cJ5_getChar 37 = .ok (.baload, 1) := dk_51 (dk_at dksJ5_getChar_1 13 rfl rfl)
theorem dJ5_getChar_38 : decode cJ5_getChar 38 = .ok (.sipush 255, 3) := dk_17 0 255 (dk_at dksJ5_getChar_1 14 rfl rfl)
theorem dJ5_getChar_41 : decode cJ5_getChar 41 = .ok (.iand, 1) := dk_126 (dk_at dksJ5_getChar_1 17 rfl rfl)
theorem dJ5_getChar_42 : decode cJ5_getChar 42 = .ok (.getstatic 59, 3) := dk_178 0 59 (dk_at dksJ5_getChar_1 18 rfl rfl)
theorem dJ5_getChar_45 : decode cJ5_getChar 45 = .ok (.ishl, 1) := dk_120 (dk_at dksJ5_getChar_1 21 rfl rfl)
theorem dJ5_getChar_46 : decode cJ5_getChar 46 = .ok (.aload_n 0, 1) := dk_42 (dk_at dksJ5_getChar_1 22 rfl rfl)
theorem dJ5_getChar_47 : decode cJ5_getChar 47 = .ok (.iload_n 1, 1) := dk_27 (dk_at dksJ5_getChar_1 23 rfl rfl)
theorem dJ5_getChar_48 : decode cJ5_getChar 48 = .ok (.baload, 1) := dk_51 (dk_at dksJ5_getChar_2 0 rfl rfl)
theorem dJ5_getChar_49 : decode cJ5_getChar 49 = .ok (.sipush 255, 3) := dk_17 0 255 (dk_at dksJ5_getChar_2 1 rfl rfl)
theorem dJ5_getChar_52 : decode cJ5_getChar 52 = .ok (.iand, 1) := dk_126 (dk_at dksJ5_getChar_2 4 rfl rfl)
theorem dJ5_getChar_53 : decode cJ5_getChar 53 = .ok (.getstatic 63, 3) := dk_178 0 63 (dk_at dksJ5_getChar_2 5 rfl rfl)
theorem dJ5_getChar_56 : decode cJ5_getChar 56 = .ok (.ishl, 1) := dk_120 (dk_at dksJ5_getChar_2 8 rfl rfl)
theorem dJ5_getChar_57 : decode cJ5_getChar 57 = .ok (.ior, 1) := dk_128 (dk_at dksJ5_getChar_2 9 rfl rfl)
theorem dJ5_getChar_58 : decode cJ5_getChar 58 = .ok (.i2c, 1) := dk_146 (dk_at dksJ5_getChar_2 10 rfl rfl)
theorem dJ5_getChar_59 : decode cJ5_getChar 59 = .ok (.ireturn, 1) := dk_172 (dk_at dksJ5_getChar_2 11 rfl rfl)
abbrev cJ5_getChars : ByteArray := prog_34_method_77_code
def yJ5_getChars : MethodName := ⟨RJ5, "getChars", "(III[B)I"⟩
def dkwJ5_getChars_1 : List UInt8 := [159, 0, 11, 187, 0, 52, 89, 183, 0, 66, 191, 21, 4, 172]
abbrev dktJ5_getChars_1 : List UInt8 := dkwJ5_getChars_1 ++ []
def dkwJ5_getChars_0 : List UInt8 := [27, 28, 45, 184, 0, 96, 26, 28, 45, 184, 1, 137, 54, 4, 178, 0, 44, 154, 0, 17, 27, 21, 4]
abbrev dktJ5_getChars_0 : List UInt8 := dkwJ5_getChars_0 ++ dktJ5_getChars_1
theorem dksJ5_getChars_0 : cJ5_getChars.data.toList.drop 0 = dktJ5_getChars_0 := by decide +kernel
theorem dksJ5_getChars_1 : cJ5_getChars.data.toList.drop 23 = dktJ5_getChars_1 := dk_seg dksJ5_getChars_0 23 rfl rfl
theorem dJ5_getChars_0 : decode cJ5_getChars 0 = .ok (.iload_n 1, 1) := dk_27 (dk_at dksJ5_getChars_0 0 rfl rfl)
theorem dJ5_getChars_1 : decode cJ5_getChars 1 = .ok (.iload_n 2, 1) := dk_28 (dk_at dksJ5_getChars_0 1 rfl rfl)
theorem dJ5_getChars_2 : decode cJ5_getChars 2 = .ok (.aload_n 3, 1) := dk_45 (dk_at dksJ5_getChars_0 2 rfl rfl)
theorem dJ5_getChars_3 : decode cJ5_getChars 3 = .ok (.invokestatic 96, 3) := dk_184 0 96 (dk_at dksJ5_getChars_0 3 rfl rfl)
theorem dJ5_getChars_6 : decode cJ5_getChars 6 = .ok (.iload_n 0, 1) := dk_26 (dk_at dksJ5_getChars_0 6 rfl rfl)
theorem dJ5_getChars_7 : decode cJ5_getChars 7 = .ok (.iload_n 2, 1) := dk_28 (dk_at dksJ5_getChars_0 7 rfl rfl)
theorem dJ5_getChars_8 : decode cJ5_getChars 8 = .ok (.aload_n 3, 1) := dk_45 (dk_at dksJ5_getChars_0 8 rfl rfl)
theorem dJ5_getChars_9 : decode cJ5_getChars 9 = .ok (.invokestatic 393, 3) := dk_184 1 137 (dk_at dksJ5_getChars_0 9 rfl rfl)
theorem dJ5_getChars_12 : decode cJ5_getChars 12 = .ok (.istore 4, 2) := dk_54 4 (dk_at dksJ5_getChars_0 12 rfl rfl)
theorem dJ5_getChars_14 : decode cJ5_getChars 14 = .ok (.getstatic 44, 3) := dk_178 0 44 (dk_at dksJ5_getChars_0 14 rfl rfl)
theorem dJ5_getChars_17 : decode cJ5_getChars 17 = .ok (.ifCond .ne 17, 3) := dk_154 0 17 (dk_at dksJ5_getChars_0 17 rfl rfl)
theorem dJ5_getChars_20 : decode cJ5_getChars 20 = .ok (.iload_n 1, 1) := dk_27 (dk_at dksJ5_getChars_0 20 rfl rfl)
theorem dJ5_getChars_21 : decode cJ5_getChars 21 = .ok (.iload 4, 2) := dk_21 4 (dk_at dksJ5_getChars_0 21 rfl rfl)
theorem dJ5_getChars_23 : decode cJ5_getChars 23 = .ok (.if_icmp .eq 11, 3) := dk_159 0 11 (dk_at dksJ5_getChars_1 0 rfl rfl)
theorem dJ5_getChars_26 : decode cJ5_getChars 26 = .ok (.new 52, 3) := dk_187 0 52 (dk_at dksJ5_getChars_1 3 rfl rfl)
theorem dJ5_getChars_29 : decode cJ5_getChars 29 = .ok (.dup, 1) := dk_89 (dk_at dksJ5_getChars_1 6 rfl rfl)
theorem dJ5_getChars_30 : decode cJ5_getChars 30 = .ok (.invokespecial 66, 3) := dk_183 0 66 (dk_at dksJ5_getChars_1 7 rfl rfl)
theorem dJ5_getChars_33 : decode cJ5_getChars 33 = .ok (.athrow, 1) := dk_191 (dk_at dksJ5_getChars_1 10 rfl rfl)
theorem dJ5_getChars_34 : decode cJ5_getChars 34 = .ok (.iload 4, 2) := dk_21 4 (dk_at dksJ5_getChars_1 11 rfl rfl)
theorem dJ5_getChars_36 : decode cJ5_getChars 36 = .ok (.ireturn, 1) := dk_172 (dk_at dksJ5_getChars_1 13 rfl rfl)
abbrev cJ5_checkBoundsBeginEnd : ByteArray := prog_34_method_93_code
def yJ5_checkBoundsBeginEnd : MethodName := ⟨RJ5, "checkBoundsBeginEnd", "(II[B)V"⟩
def dkwJ5_checkBoundsBeginEnd_0 : List UInt8 := [26, 27, 44, 184, 0, 48, 184, 0, 241, 177]
abbrev dktJ5_checkBoundsBeginEnd_0 : List UInt8 := dkwJ5_checkBoundsBeginEnd_0 ++ []
theorem dksJ5_checkBoundsBeginEnd_0 : cJ5_checkBoundsBeginEnd.data.toList.drop 0 = dktJ5_checkBoundsBeginEnd_0 := by decide +kernel
theorem dJ5_checkBoundsBeginEnd_0 : decode cJ5_checkBoundsBeginEnd 0 = .ok (.iload_n 0, 1) := dk_26 (dk_at dksJ5_checkBoundsBeginEnd_0 0 rfl rfl)
theorem dJ5_checkBoundsBeginEnd_1 : decode cJ5_checkBoundsBeginEnd 1 = .ok (.iload_n 1, 1) := dk_27 (dk_at dksJ5_checkBoundsBeginEnd_0 1 rfl rfl)
theorem dJ5_checkBoundsBeginEnd_2 : decode cJ5_checkBoundsBeginEnd 2 = .ok (.aload_n 2, 1) := dk_44 (dk_at dksJ5_checkBoundsBeginEnd_0 2 rfl rfl)
theorem dJ5_checkBoundsBeginEnd_3 : decode cJ5_checkBoundsBeginEnd 3 = .ok (.invokestatic 48, 3) := dk_184 0 48 (dk_at dksJ5_checkBoundsBeginEnd_0 3 rfl rfl)
theorem dJ5_checkBoundsBeginEnd_6 : decode cJ5_checkBoundsBeginEnd 6 = .ok (.invokestatic 241, 3) := dk_184 0 241 (dk_at dksJ5_checkBoundsBeginEnd_0 6 rfl rfl)
theorem dJ5_checkBoundsBeginEnd_9 : decode cJ5_checkBoundsBeginEnd 9 = .ok (.return_, 1) := dk_177 (dk_at dksJ5_checkBoundsBeginEnd_0 9 rfl rfl)
abbrev cJ5_getChars_2 : ByteArray := prog_34_method_89_code
def yJ5_getChars_2 : MethodName := ⟨RJ5, "getChars", "(II[B)I"⟩
def dkwJ5_getChars_2_5 : List UInt8 := [132, 5, 255, 21, 5, 16, 45, 184, 0, 111, 21, 5, 172]
abbrev dktJ5_getChars_2_5 : List UInt8 := dkwJ5_getChars_2_5 ++ []
def dkwJ5_getChars_2_4 : List UInt8 := [162, 0, 18, 44, 132, 5, 255, 21, 5, 178, 1, 151, 26, 116, 51, 184, 0, 111, 21, 6, 153, 0, 14, 44]
abbrev dktJ5_getChars_2_4 : List UInt8 := dkwJ5_getChars_2_4 ++ dktJ5_getChars_2_5
def dkwJ5_getChars_2_3 : List UInt8 := [184, 0, 111, 167, 255, 205, 44, 132, 5, 255, 21, 5, 178, 1, 147, 26, 116, 51, 184, 0, 111, 26, 16, 247]
abbrev dktJ5_getChars_2_3 : List UInt8 := dkwJ5_getChars_2_3 ++ dktJ5_getChars_2_4
def dkwJ5_getChars_2_2 : List UInt8 := [21, 5, 178, 1, 147, 21, 4, 51, 184, 0, 111, 44, 132, 5, 255, 21, 5, 178, 1, 151, 21, 4, 51]
abbrev dktJ5_getChars_2_2 : List UInt8 := dkwJ5_getChars_2_2 ++ dktJ5_getChars_2_3
def dkwJ5_getChars_2_1 : List UInt8 := [16, 156, 163, 0, 51, 26, 16, 100, 108, 62, 29, 16, 100, 104, 26, 100, 54, 4, 29, 59, 44, 132, 5, 255]
abbrev dktJ5_getChars_2_1 : List UInt8 := dkwJ5_getChars_2_1 ++ dktJ5_getChars_2_2
def dkwJ5_getChars_2_0 : List UInt8 := [27, 54, 5, 26, 156, 0, 7, 4, 167, 0, 4, 3, 54, 6, 21, 6, 154, 0, 6, 26, 116, 59, 26]
abbrev dktJ5_getChars_2_0 : List UInt8 := dkwJ5_getChars_2_0 ++ dktJ5_getChars_2_1
theorem dksJ5_getChars_2_0 : cJ5_getChars_2.data.toList.drop 0 = dktJ5_getChars_2_0 := by decide +kernel
theorem dksJ5_getChars_2_1 : cJ5_getChars_2.data.toList.drop 23 = dktJ5_getChars_2_1 := dk_seg dksJ5_getChars_2_0 23 rfl rfl
theorem dksJ5_getChars_2_2 : cJ5_getChars_2.data.toList.drop 47 = dktJ5_getChars_2_2 := dk_seg dksJ5_getChars_2_1 24 rfl rfl
theorem dksJ5_getChars_2_3 : cJ5_getChars_2.data.toList.drop 70 = dktJ5_getChars_2_3 := dk_seg dksJ5_getChars_2_2 23 rfl rfl
theorem dksJ5_getChars_2_4 : cJ5_getChars_2.data.toList.drop 94 = dktJ5_getChars_2_4 := dk_seg dksJ5_getChars_2_3 24 rfl rfl
theorem dksJ5_getChars_2_5 : cJ5_getChars_2.data.toList.drop 118 = dktJ5_getChars_2_5 := dk_seg dksJ5_getChars_2_4 24 rfl rfl
theorem dJ5_getChars_2_0 : decode cJ5_getChars_2 0 = .ok (.iload_n 1, 1) := dk_27 (dk_at dksJ5_getChars_2_0 0 rfl rfl)
theorem dJ5_getChars_2_1 : decode cJ5_getChars_2 1 = .ok (.istore 5, 2) := dk_54 5 (dk_at dksJ5_getChars_2_0 1 rfl rfl)
theorem dJ5_getChars_2_3 : decode cJ5_getChars_2 3 = .ok (.iload_n 0, 1) := dk_26 (dk_at dksJ5_getChars_2_0 3 rfl rfl)
theorem dJ5_getChars_2_4 : decode cJ5_getChars_2 4 = .ok (.ifCond .ge 7, 3) := dk_156 0 7 (dk_at dksJ5_getChars_2_0 4 rfl rfl)
theorem dJ5_getChars_2_7 : decode cJ5_getChars_2 7 = .ok (.iconst 1, 1) := dk_4 (dk_at dksJ5_getChars_2_0 7 rfl rfl)
theorem dJ5_getChars_2_8 : decode cJ5_getChars_2 8 = .ok (.goto 4, 3) := dk_167 0 4 (dk_at dksJ5_getChars_2_0 8 rfl rfl)
theorem dJ5_getChars_2_11 : decode cJ5_getChars_2 11 = .ok (.iconst 0, 1) := dk_3 (dk_at dksJ5_getChars_2_0 11 rfl rfl)
theorem dJ5_getChars_2_12 : decode cJ5_getChars_2 12 = .ok (.istore 6, 2) := dk_54 6 (dk_at dksJ5_getChars_2_0 12 rfl rfl)
theorem dJ5_getChars_2_14 : decode cJ5_getChars_2 14 = .ok (.iload 6, 2) := dk_21 6 (dk_at dksJ5_getChars_2_0 14 rfl rfl)
theorem dJ5_getChars_2_16 : decode cJ5_getChars_2 16 = .ok (.ifCond .ne 6, 3) := dk_154 0 6 (dk_at dksJ5_getChars_2_0 16 rfl rfl)
theorem dJ5_getChars_2_19 : decode cJ5_getChars_2 19 = .ok (.iload_n 0, 1) := dk_26 (dk_at dksJ5_getChars_2_0 19 rfl rfl)
theorem dJ5_getChars_2_20 : decode cJ5_getChars_2 20 = .ok (.ineg, 1) := dk_116 (dk_at dksJ5_getChars_2_0 20 rfl rfl)
theorem dJ5_getChars_2_21 : decode cJ5_getChars_2 21 = .ok (.istore_n 0, 1) := dk_59 (dk_at dksJ5_getChars_2_0 21 rfl rfl)
theorem dJ5_getChars_2_22 : decode cJ5_getChars_2 22 = .ok (.iload_n 0, 1) := dk_26 (dk_at dksJ5_getChars_2_0 22 rfl rfl)
theorem dJ5_getChars_2_23 : decode cJ5_getChars_2 23 = .ok (.bipush (-100), 2) := dk_16 156 (dk_at dksJ5_getChars_2_1 0 rfl rfl)
theorem dJ5_getChars_2_25 : decode cJ5_getChars_2 25 = .ok (.if_icmp .gt 51, 3) := dk_163 0 51 (dk_at dksJ5_getChars_2_1 2 rfl rfl)
theorem dJ5_getChars_2_28 : decode cJ5_getChars_2 28 = .ok (.iload_n 0, 1) := dk_26 (dk_at dksJ5_getChars_2_1 5 rfl rfl)
theorem dJ5_getChars_2_29 : decode cJ5_getChars_2 29 = .ok (.bipush 100, 2) := dk_16 100 (dk_at dksJ5_getChars_2_1 6 rfl rfl)
theorem dJ5_getChars_2_31 : decode cJ5_getChars_2 31 = .ok (.idiv, 1) := dk_108 (dk_at dksJ5_getChars_2_1 8 rfl rfl)
theorem dJ5_getChars_2_32 : decode cJ5_getChars_2 32 = .ok (.istore_n 3, 1) := dk_62 (dk_at dksJ5_getChars_2_1 9 rfl rfl)
theorem dJ5_getChars_2_33 : decode cJ5_getChars_2 33 = .ok (.iload_n 3, 1) := dk_29 (dk_at dksJ5_getChars_2_1 10 rfl rfl)
theorem dJ5_getChars_2_34 : decode cJ5_getChars_2 34 = .ok (.bipush 100, 2) := dk_16 100 (dk_at dksJ5_getChars_2_1 11 rfl rfl)
theorem dJ5_getChars_2_36 : decode cJ5_getChars_2 36 = .ok (.imul, 1) := dk_104 (dk_at dksJ5_getChars_2_1 13 rfl rfl)
theorem dJ5_getChars_2_37 : decode cJ5_getChars_2 37 = .ok (.iload_n 0, 1) := dk_26 (dk_at dksJ5_getChars_2_1 14 rfl rfl)
theorem dJ5_getChars_2_38 : decode cJ5_getChars_2 38 = .ok (.isub, 1) := dk_100 (dk_at dksJ5_getChars_2_1 15 rfl rfl)
theorem dJ5_getChars_2_39 : decode cJ5_getChars_2 39 = .ok (.istore 4, 2) := dk_54 4 (dk_at dksJ5_getChars_2_1 16 rfl rfl)
theorem dJ5_getChars_2_41 : decode cJ5_getChars_2 41 = .ok (.iload_n 3, 1) := dk_29 (dk_at dksJ5_getChars_2_1 18 rfl rfl)
theorem dJ5_getChars_2_42 : decode cJ5_getChars_2 42 = .ok (.istore_n 0, 1) := dk_59 (dk_at dksJ5_getChars_2_1 19 rfl rfl)
theorem dJ5_getChars_2_43 : decode cJ5_getChars_2 43 = .ok (.aload_n 2, 1) := dk_44 (dk_at dksJ5_getChars_2_1 20 rfl rfl)
theorem dJ5_getChars_2_44 : decode cJ5_getChars_2 44 = .ok (.iinc 5 (-1), 3) := dk_132 5 255 (dk_at dksJ5_getChars_2_1 21 rfl rfl)
theorem dJ5_getChars_2_47 : decode cJ5_getChars_2 47 = .ok (.iload 5, 2) := dk_21 5 (dk_at dksJ5_getChars_2_2 0 rfl rfl)
theorem dJ5_getChars_2_49 : decode cJ5_getChars_2 49 = .ok (.getstatic 403, 3) := dk_178 1 147 (dk_at dksJ5_getChars_2_2 2 rfl rfl)
theorem dJ5_getChars_2_52 : decode cJ5_getChars_2 52 = .ok (.iload 4, 2) := dk_21 4 (dk_at dksJ5_getChars_2_2 5 rfl rfl)
theorem dJ5_getChars_2_54 : decode cJ5_getChars_2 54 = .ok (.baload, 1) := dk_51 (dk_at dksJ5_getChars_2_2 7 rfl rfl)
theorem dJ5_getChars_2_55 : decode cJ5_getChars_2 55 = .ok (.invokestatic 111, 3) := dk_184 0 111 (dk_at dksJ5_getChars_2_2 8 rfl rfl)
theorem dJ5_getChars_2_58 : decode cJ5_getChars_2 58 = .ok (.aload_n 2, 1) := dk_44 (dk_at dksJ5_getChars_2_2 11 rfl rfl)
theorem dJ5_getChars_2_59 : decode cJ5_getChars_2 59 = .ok (.iinc 5 (-1), 3) := dk_132 5 255 (dk_at dksJ5_getChars_2_2 12 rfl rfl)
theorem dJ5_getChars_2_62 : decode cJ5_getChars_2 62 = .ok (.iload 5, 2) := dk_21 5 (dk_at dksJ5_getChars_2_2 15 rfl rfl)
theorem dJ5_getChars_2_64 : decode cJ5_getChars_2 64 = .ok (.getstatic 407, 3) := dk_178 1 151 (dk_at dksJ5_getChars_2_2 17 rfl rfl)
theorem dJ5_getChars_2_67 : decode cJ5_getChars_2 67 = .ok (.iload 4, 2) := dk_21 4 (dk_at dksJ5_getChars_2_2 20 rfl rfl)
theorem dJ5_getChars_2_69 : decode cJ5_getChars_2 69 = .ok (.baload, 1) := dk_51 (dk_at dksJ5_getChars_2_2 22 rfl rfl)
theorem dJ5_getChars_2_70 : decode cJ5_getChars_2 70 = .ok (.invokestatic 111, 3) := dk_184 0 111 (dk_at dksJ5_getChars_2_3 0 rfl rfl)
theorem dJ5_getChars_2_73 : decode cJ5_getChars_2 73 = .ok (.goto (-51), 3) := dk_167 255 205 (dk_at dksJ5_getChars_2_3 3 rfl rfl)
theorem dJ5_getChars_2_76 : decode cJ5_getChars_2 76 = .ok (.aload_n 2, 1) := dk_44 (dk_at dksJ5_getChars_2_3 6 rfl rfl)
theorem dJ5_getChars_2_77 : decode cJ5_getChars_2 77 = .ok (.iinc 5 (-1), 3) := dk_132 5 255 (dk_at dksJ5_getChars_2_3 7 rfl rfl)
theorem dJ5_getChars_2_80 : decode cJ5_getChars_2 80 = .ok (.iload 5, 2) := dk_21 5 (dk_at dksJ5_getChars_2_3 10 rfl rfl)
theorem dJ5_getChars_2_82 : decode cJ5_getChars_2 82 = .ok (.getstatic 403, 3) := dk_178 1 147 (dk_at dksJ5_getChars_2_3 12 rfl rfl)
theorem dJ5_getChars_2_85 : decode cJ5_getChars_2 85 = .ok (.iload_n 0, 1) := dk_26 (dk_at dksJ5_getChars_2_3 15 rfl rfl)
theorem dJ5_getChars_2_86 : decode cJ5_getChars_2 86 = .ok (.ineg, 1) := dk_116 (dk_at dksJ5_getChars_2_3 16 rfl rfl)
theorem dJ5_getChars_2_87 : decode cJ5_getChars_2 87 = .ok (.baload, 1) := dk_51 (dk_at dksJ5_getChars_2_3 17 rfl rfl)
theorem dJ5_getChars_2_88 : decode cJ5_getChars_2 88 = .ok (.invokestatic 111, 3) := dk_184 0 111 (dk_at dksJ5_getChars_2_3 18 rfl rfl)
theorem dJ5_getChars_2_91 : decode cJ5_getChars_2 91 = .ok (.iload_n 0, 1) := dk_26 (dk_at dksJ5_getChars_2_3 21 rfl rfl)
theorem dJ5_getChars_2_92 : decode cJ5_getChars_2 92 = .ok (.bipush (-9), 2) := dk_16 247 (dk_at dksJ5_getChars_2_3 22 rfl rfl)
theorem dJ5_getChars_2_94 : decode cJ5_getChars_2 94 = .ok (.if_icmp .ge 18, 3) := dk_162 0 18 (dk_at dksJ5_getChars_2_4 0 rfl rfl)
theorem dJ5_getChars_2_97 : decode cJ5_getChars_2 97 = .ok (.aload_n 2, 1) := dk_44 (dk_at dksJ5_getChars_2_4 3 rfl rfl)
theorem dJ5_getChars_2_98 : decode cJ5_getChars_2 98 = .ok (.iinc 5 (-1), 3) := dk_132 5 255 (dk_at dksJ5_getChars_2_4 4 rfl rfl)
theorem dJ5_getChars_2_101 : decode cJ5_getChars_2 101 = .ok (.iload 5, 2) := dk_21 5 (dk_at dksJ5_getChars_2_4 7 rfl rfl)
theorem dJ5_getChars_2_103 : decode cJ5_getChars_2 103 = .ok (.getstatic 407, 3) := dk_178 1 151 (dk_at dksJ5_getChars_2_4 9 rfl rfl)
theorem dJ5_getChars_2_106 : decode cJ5_getChars_2 106 = .ok (.iload_n 0, 1) := dk_26 (dk_at dksJ5_getChars_2_4 12 rfl rfl)
theorem dJ5_getChars_2_107 : decode cJ5_getChars_2 107 = .ok (.ineg, 1) := dk_116 (dk_at dksJ5_getChars_2_4 13 rfl rfl)
theorem dJ5_getChars_2_108 : decode cJ5_getChars_2 108 = .ok (.baload, 1) := dk_51 (dk_at dksJ5_getChars_2_4 14 rfl rfl)
theorem dJ5_getChars_2_109 : decode cJ5_getChars_2 109 = .ok (.invokestatic 111, 3) := dk_184 0 111 (dk_at dksJ5_getChars_2_4 15 rfl rfl)
theorem dJ5_getChars_2_112 : decode cJ5_getChars_2 112 = .ok (.iload 6, 2) := dk_21 6 (dk_at dksJ5_getChars_2_4 18 rfl rfl)
theorem dJ5_getChars_2_114 : decode cJ5_getChars_2 114 = .ok (.ifCond .eq 14, 3) := dk_153 0 14 (dk_at dksJ5_getChars_2_4 20 rfl rfl)
theorem dJ5_getChars_2_117 : decode cJ5_getChars_2 117 = .ok (.aload_n 2, 1) := dk_44 (dk_at dksJ5_getChars_2_4 23 rfl rfl)
theorem dJ5_getChars_2_118 : decode cJ5_getChars_2 118 = .ok (.iinc 5 (-1), 3) := dk_132 5 255 (dk_at dksJ5_getChars_2_5 0 rfl rfl)
theorem dJ5_getChars_2_121 : decode cJ5_getChars_2 121 = .ok (.iload 5, 2) := dk_21 5 (dk_at dksJ5_getChars_2_5 3 rfl rfl)
theorem dJ5_getChars_2_123 : decode cJ5_getChars_2 123 = .ok (.bipush 45, 2) := dk_16 45 (dk_at dksJ5_getChars_2_5 5 rfl rfl)
theorem dJ5_getChars_2_125 : decode cJ5_getChars_2 125 = .ok (.invokestatic 111, 3) := dk_184 0 111 (dk_at dksJ5_getChars_2_5 7 rfl rfl)
theorem dJ5_getChars_2_128 : decode cJ5_getChars_2 128 = .ok (.iload 5, 2) := dk_21 5 (dk_at dksJ5_getChars_2_5 10 rfl rfl)
theorem dJ5_getChars_2_130 : decode cJ5_getChars_2 130 = .ok (.ireturn, 1) := dk_172 (dk_at dksJ5_getChars_2_5 12 rfl rfl)
abbrev cJ5_putChar : ByteArray := prog_34_method_4_code
def yJ5_putChar : MethodName := ⟨RJ5, "putChar", "([BII)V"⟩
def dkwJ5_putChar_2 : List UInt8 := [178, 0, 63, 122, 145, 84, 177]
abbrev dktJ5_putChar_2 : List UInt8 := dkwJ5_putChar_2 ++ []
def dkwJ5_putChar_1 : List UInt8 := [183, 0, 56, 191, 27, 4, 120, 60, 42, 27, 132, 1, 1, 28, 178, 0, 59, 122, 145, 84, 42, 27, 28]
abbrev dktJ5_putChar_1 : List UInt8 := dkwJ5_putChar_1 ++ dktJ5_putChar_2
def dkwJ5_putChar_0 : List UInt8 := [178, 0, 44, 154, 0, 25, 27, 155, 0, 11, 27, 42, 184, 0, 48, 161, 0, 13, 187, 0, 52, 89, 18, 54]
abbrev dktJ5_putChar_0 : List UInt8 := dkwJ5_putChar_0 ++ dktJ5_putChar_1
theorem dksJ5_putChar_0 : cJ5_putChar.data.toList.drop 0 = dktJ5_putChar_0 := by decide +kernel
theorem dksJ5_putChar_1 : cJ5_putChar.data.toList.drop 24 = dktJ5_putChar_1 := dk_seg dksJ5_putChar_0 24 rfl rfl
theorem dksJ5_putChar_2 : cJ5_putChar.data.toList.drop 47 = dktJ5_putChar_2 := dk_seg dksJ5_putChar_1 23 rfl rfl
theorem dJ5_putChar_0 : decode cJ5_putChar 0 = .ok (.getstatic 44, 3) := dk_178 0 44 (dk_at dksJ5_putChar_0 0 rfl rfl)
theorem dJ5_putChar_3 : decode cJ5_putChar 3 = .ok (.ifCond .ne 25, 3) := dk_154 0 25 (dk_at dksJ5_putChar_0 3 rfl rfl)
theorem dJ5_putChar_6 : decode cJ5_putChar 6 = .ok (.iload_n 1, 1) := dk_27 (dk_at dksJ5_putChar_0 6 rfl rfl)
theorem dJ5_putChar_7 : decode cJ5_putChar 7 = .ok (.ifCond .lt 11, 3) := dk_155 0 11 (dk_at dksJ5_putChar_0 7 rfl rfl)
theorem dJ5_putChar_10 : decode cJ5_putChar 10 = .ok (.iload_n 1, 1) := dk_27 (dk_at dksJ5_putChar_0 10 rfl rfl)
theorem dJ5_putChar_11 : decode cJ5_putChar 11 = .ok (.aload_n 0, 1) := dk_42 (dk_at dksJ5_putChar_0 11 rfl rfl)
theorem dJ5_putChar_12 : decode cJ5_putChar 12 = .ok (.invokestatic 48, 3) := dk_184 0 48 (dk_at dksJ5_putChar_0 12 rfl rfl)
theorem dJ5_putChar_15 : decode cJ5_putChar 15 = .ok (.if_icmp .lt 13, 3) := dk_161 0 13 (dk_at dksJ5_putChar_0 15 rfl rfl)
theorem dJ5_putChar_18 : decode cJ5_putChar 18 = .ok (.new 52, 3) := dk_187 0 52 (dk_at dksJ5_putChar_0 18 rfl rfl)
theorem dJ5_putChar_21 : decode cJ5_putChar 21 = .ok (.dup, 1) := dk_89 (dk_at dksJ5_putChar_0 21 rfl rfl)
theorem dJ5_putChar_22 : decode cJ5_putChar 22 = .ok (.ldc 54, 2) := dk_18 54 (dk_at dksJ5_putChar_0 22 rfl rfl)
theorem dJ5_putChar_24 : decode cJ5_putChar 24 = .ok (.invokespecial 56, 3) := dk_183 0 56 (dk_at dksJ5_putChar_1 0 rfl rfl)
theorem dJ5_putChar_27 : decode cJ5_putChar 27 = .ok (.athrow, 1) := dk_191 (dk_at dksJ5_putChar_1 3 rfl rfl)
theorem dJ5_putChar_28 : decode cJ5_putChar 28 = .ok (.iload_n 1, 1) := dk_27 (dk_at dksJ5_putChar_1 4 rfl rfl)
theorem dJ5_putChar_29 : decode cJ5_putChar 29 = .ok (.iconst 1, 1) := dk_4 (dk_at dksJ5_putChar_1 5 rfl rfl)
theorem dJ5_putChar_30 : decode cJ5_putChar 30 = .ok (.ishl, 1) := dk_120 (dk_at dksJ5_putChar_1 6 rfl rfl)
theorem dJ5_putChar_31 : decode cJ5_putChar 31 = .ok (.istore_n 1, 1) := dk_60 (dk_at dksJ5_putChar_1 7 rfl rfl)
theorem dJ5_putChar_32 : decode cJ5_putChar 32 = .ok (.aload_n 0, 1) := dk_42 (dk_at dksJ5_putChar_1 8 rfl rfl)
theorem dJ5_putChar_33 : decode cJ5_putChar 33 = .ok (.iload_n 1, 1) := dk_27 (dk_at dksJ5_putChar_1 9 rfl rfl)
theorem dJ5_putChar_34 : decode cJ5_putChar 34 = .ok (.iinc 1 1, 3) := dk_132 1 1 (dk_at dksJ5_putChar_1 10 rfl rfl)
theorem dJ5_putChar_37 : decode cJ5_putChar 37 = .ok (.iload_n 2, 1) := dk_28 (dk_at dksJ5_putChar_1 13 rfl rfl)
theorem dJ5_putChar_38 : decode cJ5_putChar 38 = .ok (.getstatic 59, 3) := dk_178 0 59 (dk_at dksJ5_putChar_1 14 rfl rfl)
theorem dJ5_putChar_41 : decode cJ5_putChar 41 = .ok (.ishr, 1) := dk_122 (dk_at dksJ5_putChar_1 17 rfl rfl)
theorem dJ5_putChar_42 : decode cJ5_putChar 42 = .ok (.i2b, 1) := dk_145 (dk_at dksJ5_putChar_1 18 rfl rfl)
theorem dJ5_putChar_43 : decode cJ5_putChar 43 = .ok (.bastore, 1) := dk_84 (dk_at dksJ5_putChar_1 19 rfl rfl)
theorem dJ5_putChar_44 : decode cJ5_putChar 44 = .ok (.aload_n 0, 1) := dk_42 (dk_at dksJ5_putChar_1 20 rfl rfl)
theorem dJ5_putChar_45 : decode cJ5_putChar 45 = .ok (.iload_n 1, 1) := dk_27 (dk_at dksJ5_putChar_1 21 rfl rfl)
theorem dJ5_putChar_46 : decode cJ5_putChar 46 = .ok (.iload_n 2, 1) := dk_28 (dk_at dksJ5_putChar_1 22 rfl rfl)
theorem dJ5_putChar_47 : decode cJ5_putChar 47 = .ok (.getstatic 63, 3) := dk_178 0 63 (dk_at dksJ5_putChar_2 0 rfl rfl)
theorem dJ5_putChar_50 : decode cJ5_putChar 50 = .ok (.ishr, 1) := dk_122 (dk_at dksJ5_putChar_2 3 rfl rfl)
theorem dJ5_putChar_51 : decode cJ5_putChar 51 = .ok (.i2b, 1) := dk_145 (dk_at dksJ5_putChar_2 4 rfl rfl)
theorem dJ5_putChar_52 : decode cJ5_putChar 52 = .ok (.bastore, 1) := dk_84 (dk_at dksJ5_putChar_2 5 rfl rfl)
theorem dJ5_putChar_53 : decode cJ5_putChar 53 = .ok (.return_, 1) := dk_177 (dk_at dksJ5_putChar_2 6 rfl rfl)
abbrev cJ5_putCharsAt : ByteArray := prog_34_method_81_code
def yJ5_putCharsAt : MethodName := ⟨RJ5, "putCharsAt", "([BICCCC)I"⟩
def dkwJ5_putCharsAt_3 : List UInt8 := [21, 6, 172]
abbrev dktJ5_putCharsAt_3 : List UInt8 := dkwJ5_putCharsAt_3 ++ []
def dkwJ5_putCharsAt_2 : List UInt8 := [184, 0, 111, 178, 0, 44, 154, 0, 17, 27, 21, 6, 159, 0, 11, 187, 0, 52, 89, 183, 0, 66, 191]
abbrev dktJ5_putCharsAt_2 : List UInt8 := dkwJ5_putCharsAt_2 ++ dktJ5_putCharsAt_3
def dkwJ5_putCharsAt_1 : List UInt8 := [132, 1, 1, 29, 184, 0, 111, 42, 27, 132, 1, 1, 21, 4, 184, 0, 111, 42, 27, 132, 1, 1, 21, 5]
abbrev dktJ5_putCharsAt_1 : List UInt8 := dkwJ5_putCharsAt_1 ++ dktJ5_putCharsAt_2
def dkwJ5_putCharsAt_0 : List UInt8 := [27, 7, 96, 54, 6, 27, 21, 6, 42, 184, 0, 96, 42, 27, 132, 1, 1, 28, 184, 0, 111, 42, 27]
abbrev dktJ5_putCharsAt_0 : List UInt8 := dkwJ5_putCharsAt_0 ++ dktJ5_putCharsAt_1
theorem dksJ5_putCharsAt_0 : cJ5_putCharsAt.data.toList.drop 0 = dktJ5_putCharsAt_0 := by decide +kernel
theorem dksJ5_putCharsAt_1 : cJ5_putCharsAt.data.toList.drop 23 = dktJ5_putCharsAt_1 := dk_seg dksJ5_putCharsAt_0 23 rfl rfl
theorem dksJ5_putCharsAt_2 : cJ5_putCharsAt.data.toList.drop 47 = dktJ5_putCharsAt_2 := dk_seg dksJ5_putCharsAt_1 24 rfl rfl
theorem dksJ5_putCharsAt_3 : cJ5_putCharsAt.data.toList.drop 70 = dktJ5_putCharsAt_3 := dk_seg dksJ5_putCharsAt_2 23 rfl rfl
theorem dJ5_putCharsAt_0 : decode cJ5_putCharsAt 0 = .ok (.iload_n 1, 1) := dk_27 (dk_at dksJ5_putCharsAt_0 0 rfl rfl)
theorem dJ5_putCharsAt_1 : decode cJ5_putCharsAt 1 = .ok (.iconst 4, 1) := dk_7 (dk_at dksJ5_putCharsAt_0 1 rfl rfl)
theorem dJ5_putCharsAt_2 : decode cJ5_putCharsAt 2 = .ok (.iadd, 1) := dk_96 (dk_at dksJ5_putCharsAt_0 2 rfl rfl)
theorem dJ5_putCharsAt_3 : decode cJ5_putCharsAt 3 = .ok (.istore 6, 2) := dk_54 6 (dk_at dksJ5_putCharsAt_0 3 rfl rfl)
theorem dJ5_putCharsAt_5 : decode cJ5_putCharsAt 5 = .ok (.iload_n 1, 1) := dk_27 (dk_at dksJ5_putCharsAt_0 5 rfl rfl)
theorem dJ5_putCharsAt_6 : decode cJ5_putCharsAt 6 = .ok (.iload 6, 2) := dk_21 6 (dk_at dksJ5_putCharsAt_0 6 rfl rfl)
theorem dJ5_putCharsAt_8 : decode cJ5_putCharsAt 8 = .ok (.aload_n 0, 1) := dk_42 (dk_at dksJ5_putCharsAt_0 8 rfl rfl)
theorem dJ5_putCharsAt_9 : decode cJ5_putCharsAt 9 = .ok (.invokestatic 96, 3) := dk_184 0 96 (dk_at dksJ5_putCharsAt_0 9 rfl rfl)
theorem dJ5_putCharsAt_12 : decode cJ5_putCharsAt 12 = .ok (.aload_n 0, 1) := dk_42 (dk_at dksJ5_putCharsAt_0 12 rfl rfl)
theorem dJ5_putCharsAt_13 : decode cJ5_putCharsAt 13 = .ok (.iload_n 1, 1) := dk_27 (dk_at dksJ5_putCharsAt_0 13 rfl rfl)
theorem dJ5_putCharsAt_14 : decode cJ5_putCharsAt 14 = .ok (.iinc 1 1, 3) := dk_132 1 1 (dk_at dksJ5_putCharsAt_0 14 rfl rfl)
theorem dJ5_putCharsAt_17 : decode cJ5_putCharsAt 17 = .ok (.iload_n 2, 1) := dk_28 (dk_at dksJ5_putCharsAt_0 17 rfl rfl)
theorem dJ5_putCharsAt_18 : decode cJ5_putCharsAt 18 = .ok (.invokestatic 111, 3) := dk_184 0 111 (dk_at dksJ5_putCharsAt_0 18 rfl rfl)
theorem dJ5_putCharsAt_21 : decode cJ5_putCharsAt 21 = .ok (.aload_n 0, 1) := dk_42 (dk_at dksJ5_putCharsAt_0 21 rfl rfl)
theorem dJ5_putCharsAt_22 : decode cJ5_putCharsAt 22 = .ok (.iload_n 1, 1) := dk_27 (dk_at dksJ5_putCharsAt_0 22 rfl rfl)
theorem dJ5_putCharsAt_23 : decode cJ5_putCharsAt 23 = .ok (.iinc 1 1, 3) := dk_132 1 1 (dk_at dksJ5_putCharsAt_1 0 rfl rfl)
theorem dJ5_putCharsAt_26 : decode cJ5_putCharsAt 26 = .ok (.iload_n 3, 1) := dk_29 (dk_at dksJ5_putCharsAt_1 3 rfl rfl)
theorem dJ5_putCharsAt_27 : decode cJ5_putCharsAt 27 = .ok (.invokestatic 111, 3) := dk_184 0 111 (dk_at dksJ5_putCharsAt_1 4 rfl rfl)
theorem dJ5_putCharsAt_30 : decode cJ5_putCharsAt 30 = .ok (.aload_n 0, 1) := dk_42 (dk_at dksJ5_putCharsAt_1 7 rfl rfl)
theorem dJ5_putCharsAt_31 : decode cJ5_putCharsAt 31 = .ok (.iload_n 1, 1) := dk_27 (dk_at dksJ5_putCharsAt_1 8 rfl rfl)
theorem dJ5_putCharsAt_32 : decode cJ5_putCharsAt 32 = .ok (.iinc 1 1, 3) := dk_132 1 1 (dk_at dksJ5_putCharsAt_1 9 rfl rfl)
theorem dJ5_putCharsAt_35 : decode cJ5_putCharsAt 35 = .ok (.iload 4, 2) := dk_21 4 (dk_at dksJ5_putCharsAt_1 12 rfl rfl)
theorem dJ5_putCharsAt_37 : decode cJ5_putCharsAt 37 = .ok (.invokestatic 111, 3) := dk_184 0 111 (dk_at dksJ5_putCharsAt_1 14 rfl rfl)
theorem dJ5_putCharsAt_40 : decode cJ5_putCharsAt 40 = .ok (.aload_n 0, 1) := dk_42 (dk_at dksJ5_putCharsAt_1 17 rfl rfl)
theorem dJ5_putCharsAt_41 : decode cJ5_putCharsAt 41 = .ok (.iload_n 1, 1) := dk_27 (dk_at dksJ5_putCharsAt_1 18 rfl rfl)
theorem dJ5_putCharsAt_42 : decode cJ5_putCharsAt 42 = .ok (.iinc 1 1, 3) := dk_132 1 1 (dk_at dksJ5_putCharsAt_1 19 rfl rfl)
theorem dJ5_putCharsAt_45 : decode cJ5_putCharsAt 45 = .ok (.iload 5, 2) := dk_21 5 (dk_at dksJ5_putCharsAt_1 22 rfl rfl)
theorem dJ5_putCharsAt_47 : decode cJ5_putCharsAt 47 = .ok (.invokestatic 111, 3) := dk_184 0 111 (dk_at dksJ5_putCharsAt_2 0 rfl rfl)
theorem dJ5_putCharsAt_50 : decode cJ5_putCharsAt 50 = .ok (.getstatic 44, 3) := dk_178 0 44 (dk_at dksJ5_putCharsAt_2 3 rfl rfl)
theorem dJ5_putCharsAt_53 : decode cJ5_putCharsAt 53 = .ok (.ifCond .ne 17, 3) := dk_154 0 17 (dk_at dksJ5_putCharsAt_2 6 rfl rfl)
theorem dJ5_putCharsAt_56 : decode cJ5_putCharsAt 56 = .ok (.iload_n 1, 1) := dk_27 (dk_at dksJ5_putCharsAt_2 9 rfl rfl)
theorem dJ5_putCharsAt_57 : decode cJ5_putCharsAt 57 = .ok (.iload 6, 2) := dk_21 6 (dk_at dksJ5_putCharsAt_2 10 rfl rfl)
theorem dJ5_putCharsAt_59 : decode cJ5_putCharsAt 59 = .ok (.if_icmp .eq 11, 3) := dk_159 0 11 (dk_at dksJ5_putCharsAt_2 12 rfl rfl)
theorem dJ5_putCharsAt_62 : decode cJ5_putCharsAt 62 = .ok (.new 52, 3) := dk_187 0 52 (dk_at dksJ5_putCharsAt_2 15 rfl rfl)
theorem dJ5_putCharsAt_65 : decode cJ5_putCharsAt 65 = .ok (.dup, 1) := dk_89 (dk_at dksJ5_putCharsAt_2 18 rfl rfl)
theorem dJ5_putCharsAt_66 : decode cJ5_putCharsAt 66 = .ok (.invokespecial 66, 3) := dk_183 0 66 (dk_at dksJ5_putCharsAt_2 19 rfl rfl)
theorem dJ5_putCharsAt_69 : decode cJ5_putCharsAt 69 = .ok (.athrow, 1) := dk_191 (dk_at dksJ5_putCharsAt_2 22 rfl rfl)
theorem dJ5_putCharsAt_70 : decode cJ5_putCharsAt 70 = .ok (.iload 6, 2) := dk_21 6 (dk_at dksJ5_putCharsAt_3 0 rfl rfl)
theorem dJ5_putCharsAt_72 : decode cJ5_putCharsAt 72 = .ok (.ireturn, 1) := dk_172 (dk_at dksJ5_putCharsAt_3 2 rfl rfl)
abbrev cJ5_inflate : ByteArray := prog_34_method_86_code
def yJ5_inflate : MethodName := ⟨RJ5, "inflate", "([BI[BII)V"⟩
def dkwJ5_inflate_1 : List UInt8 := [132, 1, 1, 51, 17, 0, 255, 126, 184, 0, 111, 132, 5, 1, 167, 255, 228, 177]
abbrev dktJ5_inflate_1 : List UInt8 := dkwJ5_inflate_1 ++ []
def dkwJ5_inflate_0 : List UInt8 := [29, 21, 4, 44, 184, 0, 173, 3, 54, 5, 21, 5, 21, 4, 162, 0, 27, 44, 29, 132, 3, 1, 42, 27]
abbrev dktJ5_inflate_0 : List UInt8 := dkwJ5_inflate_0 ++ dktJ5_inflate_1
theorem dksJ5_inflate_0 : cJ5_inflate.data.toList.drop 0 = dktJ5_inflate_0 := by decide +kernel
theorem dksJ5_inflate_1 : cJ5_inflate.data.toList.drop 24 = dktJ5_inflate_1 := dk_seg dksJ5_inflate_0 24 rfl rfl
theorem dJ5_inflate_0 : decode cJ5_inflate 0 = .ok (.iload_n 3, 1) := dk_29 (dk_at dksJ5_inflate_0 0 rfl rfl)
theorem dJ5_inflate_1 : decode cJ5_inflate 1 = .ok (.iload 4, 2) := dk_21 4 (dk_at dksJ5_inflate_0 1 rfl rfl)
theorem dJ5_inflate_3 : decode cJ5_inflate 3 = .ok (.aload_n 2, 1) := dk_44 (dk_at dksJ5_inflate_0 3 rfl rfl)
theorem dJ5_inflate_4 : decode cJ5_inflate 4 = .ok (.invokestatic 173, 3) := dk_184 0 173 (dk_at dksJ5_inflate_0 4 rfl rfl)
theorem dJ5_inflate_7 : decode cJ5_inflate 7 = .ok (.iconst 0, 1) := dk_3 (dk_at dksJ5_inflate_0 7 rfl rfl)
theorem dJ5_inflate_8 : decode cJ5_inflate 8 = .ok (.istore 5, 2) := dk_54 5 (dk_at dksJ5_inflate_0 8 rfl rfl)
theorem dJ5_inflate_10 : decode cJ5_inflate 10 = .ok (.iload 5, 2) := dk_21 5 (dk_at dksJ5_inflate_0 10 rfl rfl)
theorem dJ5_inflate_12 : decode cJ5_inflate 12 = .ok (.iload 4, 2) := dk_21 4 (dk_at dksJ5_inflate_0 12 rfl rfl)
theorem dJ5_inflate_14 : decode cJ5_inflate 14 = .ok (.if_icmp .ge 27, 3) := dk_162 0 27 (dk_at dksJ5_inflate_0 14 rfl rfl)
theorem dJ5_inflate_17 : decode cJ5_inflate 17 = .ok (.aload_n 2, 1) := dk_44 (dk_at dksJ5_inflate_0 17 rfl rfl)
theorem dJ5_inflate_18 : decode cJ5_inflate 18 = .ok (.iload_n 3, 1) := dk_29 (dk_at dksJ5_inflate_0 18 rfl rfl)
theorem dJ5_inflate_19 : decode cJ5_inflate 19 = .ok (.iinc 3 1, 3) := dk_132 3 1 (dk_at dksJ5_inflate_0 19 rfl rfl)
theorem dJ5_inflate_22 : decode cJ5_inflate 22 = .ok (.aload_n 0, 1) := dk_42 (dk_at dksJ5_inflate_0 22 rfl rfl)
theorem dJ5_inflate_23 : decode cJ5_inflate 23 = .ok (.iload_n 1, 1) := dk_27 (dk_at dksJ5_inflate_0 23 rfl rfl)
theorem dJ5_inflate_24 : decode cJ5_inflate 24 = .ok (.iinc 1 1, 3) := dk_132 1 1 (dk_at dksJ5_inflate_1 0 rfl rfl)
theorem dJ5_inflate_27 : decode cJ5_inflate 27 = .ok (.baload, 1) := dk_51 (dk_at dksJ5_inflate_1 3 rfl rfl)
theorem dJ5_inflate_28 : decode cJ5_inflate 28 = .ok (.sipush 255, 3) := dk_17 0 255 (dk_at dksJ5_inflate_1 4 rfl rfl)
theorem dJ5_inflate_31 : decode cJ5_inflate 31 = .ok (.iand, 1) := dk_126 (dk_at dksJ5_inflate_1 7 rfl rfl)
theorem dJ5_inflate_32 : decode cJ5_inflate 32 = .ok (.invokestatic 111, 3) := dk_184 0 111 (dk_at dksJ5_inflate_1 8 rfl rfl)
theorem dJ5_inflate_35 : decode cJ5_inflate 35 = .ok (.iinc 5 1, 3) := dk_132 5 1 (dk_at dksJ5_inflate_1 11 rfl rfl)
theorem dJ5_inflate_38 : decode cJ5_inflate 38 = .ok (.goto (-28), 3) := dk_167 255 228 (dk_at dksJ5_inflate_1 14 rfl rfl)
theorem dJ5_inflate_41 : decode cJ5_inflate 41 = .ok (.return_, 1) := dk_177 (dk_at dksJ5_inflate_1 17 rfl rfl)
abbrev cJ5_checkBoundsOffCount : ByteArray := prog_34_method_94_code
def yJ5_checkBoundsOffCount : MethodName := ⟨RJ5, "checkBoundsOffCount", "(II[B)V"⟩
def dkwJ5_checkBoundsOffCount_0 : List UInt8 := [26, 27, 44, 184, 0, 48, 184, 1, 163, 87, 177]
abbrev dktJ5_checkBoundsOffCount_0 : List UInt8 := dkwJ5_checkBoundsOffCount_0 ++ []
theorem dksJ5_checkBoundsOffCount_0 : cJ5_checkBoundsOffCount.data.toList.drop 0 = dktJ5_checkBoundsOffCount_0 := by decide +kernel
theorem dJ5_checkBoundsOffCount_0 : decode cJ5_checkBoundsOffCount 0 = .ok (.iload_n 0, 1) := dk_26 (dk_at dksJ5_checkBoundsOffCount_0 0 rfl rfl)
theorem dJ5_checkBoundsOffCount_1 : decode cJ5_checkBoundsOffCount 1 = .ok (.iload_n 1, 1) := dk_27 (dk_at dksJ5_checkBoundsOffCount_0 1 rfl rfl)
theorem dJ5_checkBoundsOffCount_2 : decode cJ5_checkBoundsOffCount 2 = .ok (.aload_n 2, 1) := dk_44 (dk_at dksJ5_checkBoundsOffCount_0 2 rfl rfl)
theorem dJ5_checkBoundsOffCount_3 : decode cJ5_checkBoundsOffCount 3 = .ok (.invokestatic 48, 3) := dk_184 0 48 (dk_at dksJ5_checkBoundsOffCount_0 3 rfl rfl)
theorem dJ5_checkBoundsOffCount_6 : decode cJ5_checkBoundsOffCount 6 = .ok (.invokestatic 419, 3) := dk_184 1 163 (dk_at dksJ5_checkBoundsOffCount_0 6 rfl rfl)
theorem dJ5_checkBoundsOffCount_9 : decode cJ5_checkBoundsOffCount 9 = .ok (.pop, 1) := dk_87 (dk_at dksJ5_checkBoundsOffCount_0 9 rfl rfl)
theorem dJ5_checkBoundsOffCount_10 : decode cJ5_checkBoundsOffCount 10 = .ok (.return_, 1) := dk_177 (dk_at dksJ5_checkBoundsOffCount_0 10 rfl rfl)
abbrev cJ5_compress : ByteArray := prog_34_method_17_code
def yJ5_compress : MethodName := ⟨RJ5, "compress", "([BII)[B"⟩
def dkwJ5_compress_2 : List UInt8 := [25, 5, 3, 45, 3, 28, 184, 0, 123, 28, 159, 0, 6, 25, 5, 176, 45, 176]
abbrev dktJ5_compress_2 : List UInt8 := dkwJ5_compress_2 ++ []
def dkwJ5_compress_1 : List UInt8 := [27, 28, 96, 184, 0, 11, 184, 0, 126, 58, 5, 25, 5, 21, 4, 184, 0, 71, 17, 0, 255, 163, 0, 16]
abbrev dktJ5_compress_1 : List UInt8 := dkwJ5_compress_1 ++ dktJ5_compress_2
def dkwJ5_compress_0 : List UInt8 := [28, 188, 8, 78, 42, 27, 45, 3, 28, 184, 0, 123, 54, 4, 21, 4, 28, 159, 0, 47, 42, 27, 4, 120]
abbrev dktJ5_compress_0 : List UInt8 := dkwJ5_compress_0 ++ dktJ5_compress_1
theorem dksJ5_compress_0 : cJ5_compress.data.toList.drop 0 = dktJ5_compress_0 := by decide +kernel
theorem dksJ5_compress_1 : cJ5_compress.data.toList.drop 24 = dktJ5_compress_1 := dk_seg dksJ5_compress_0 24 rfl rfl
theorem dksJ5_compress_2 : cJ5_compress.data.toList.drop 48 = dktJ5_compress_2 := dk_seg dksJ5_compress_1 24 rfl rfl
theorem dJ5_compress_0 : decode cJ5_compress 0 = .ok (.iload_n 2, 1) := dk_28 (dk_at dksJ5_compress_0 0 rfl rfl)
theorem dJ5_compress_1 : decode cJ5_compress 1 = .ok (.newarray .byte, 2) := dk_188_8 (dk_at dksJ5_compress_0 1 rfl rfl)
theorem dJ5_compress_3 : decode cJ5_compress 3 = .ok (.astore_n 3, 1) := dk_78 (dk_at dksJ5_compress_0 3 rfl rfl)
theorem dJ5_compress_4 : decode cJ5_compress 4 = .ok (.aload_n 0, 1) := dk_42 (dk_at dksJ5_compress_0 4 rfl rfl)
theorem dJ5_compress_5 : decode cJ5_compress 5 = .ok (.iload_n 1, 1) := dk_27 (dk_at dksJ5_compress_0 5 rfl rfl)
theorem dJ5_compress_6 : decode cJ5_compress 6 = .ok (.aload_n 3, 1) := dk_45 (dk_at dksJ5_compress_0 6 rfl rfl)
theorem dJ5_compress_7 : decode cJ5_compress 7 = .ok (.iconst 0, 1) := dk_3 (dk_at dksJ5_compress_0 7 rfl rfl)
theorem dJ5_compress_8 : decode cJ5_compress 8 = .ok (.iload_n 2, 1) := dk_28 (dk_at dksJ5_compress_0 8 rfl rfl)
theorem dJ5_compress_9 : decode cJ5_compress 9 = .ok (.invokestatic 123, 3) := dk_184 0 123 (dk_at dksJ5_compress_0 9 rfl rfl)
theorem dJ5_compress_12 : decode cJ5_compress 12 = .ok (.istore 4, 2) := dk_54 4 (dk_at dksJ5_compress_0 12 rfl rfl)
theorem dJ5_compress_14 : decode cJ5_compress 14 = .ok (.iload 4, 2) := dk_21 4 (dk_at dksJ5_compress_0 14 rfl rfl)
theorem dJ5_compress_16 : decode cJ5_compress 16 = .ok (.iload_n 2, 1) := dk_28 (dk_at dksJ5_compress_0 16 rfl rfl)
theorem dJ5_compress_17 : decode cJ5_compress 17 = .ok (.if_icmp .eq 47, 3) := dk_159 0 47 (dk_at dksJ5_compress_0 17 rfl rfl)
theorem dJ5_compress_20 : decode cJ5_compress 20 = .ok (.aload_n 0, 1) := dk_42 (dk_at dksJ5_compress_0 20 rfl rfl)
theorem dJ5_compress_21 : decode cJ5_compress 21 = .ok (.iload_n 1, 1) := dk_27 (dk_at dksJ5_compress_0 21 rfl rfl)
theorem dJ5_compress_22 : decode cJ5_compress 22 = .ok (.iconst 1, 1) := dk_4 (dk_at dksJ5_compress_0 22 rfl rfl)
theorem dJ5_compress_23 : decode cJ5_compress 23 = .ok (.ishl, 1) := dk_120 (dk_at dksJ5_compress_0 23 rfl rfl)
theorem dJ5_compress_24 : decode cJ5_compress 24 = .ok (.iload_n 1, 1) := dk_27 (dk_at dksJ5_compress_1 0 rfl rfl)
theorem dJ5_compress_25 : decode cJ5_compress 25 = .ok (.iload_n 2, 1) := dk_28 (dk_at dksJ5_compress_1 1 rfl rfl)
theorem dJ5_compress_26 : decode cJ5_compress 26 = .ok (.iadd, 1) := dk_96 (dk_at dksJ5_compress_1 2 rfl rfl)
theorem dJ5_compress_27 : decode cJ5_compress 27 = .ok (.invokestatic 11, 3) := dk_184 0 11 (dk_at dksJ5_compress_1 3 rfl rfl)
theorem dJ5_compress_30 : decode cJ5_compress 30 = .ok (.invokestatic 126, 3) := dk_184 0 126 (dk_at dksJ5_compress_1 6 rfl rfl)
theorem dJ5_compress_33 : decode cJ5_compress 33 = .ok (.astore 5, 2) := dk_58 5 (dk_at dksJ5_compress_1 9 rfl rfl)
theorem dJ5_compress_35 : decode cJ5_compress 35 = .ok (.aload 5, 2) := dk_25 5 (dk_at dksJ5_compress_1 11 rfl rfl)
theorem dJ5_compress_37 : decode cJ5_compress 37 = .ok (.iload 4, 2) := dk_21 4 (dk_at dksJ5_compress_1 13 rfl rfl)
theorem dJ5_compress_39 : decode cJ5_compress 39 = .ok (.invokestatic 71, 3) := dk_184 0 71 (dk_at dksJ5_compress_1 15 rfl rfl)
theorem dJ5_compress_42 : decode cJ5_compress 42 = .ok (.sipush 255, 3) := dk_17 0 255 (dk_at dksJ5_compress_1 18 rfl rfl)
theorem dJ5_compress_45 : decode cJ5_compress 45 = .ok (.if_icmp .gt 16, 3) := dk_163 0 16 (dk_at dksJ5_compress_1 21 rfl rfl)
theorem dJ5_compress_48 : decode cJ5_compress 48 = .ok (.aload 5, 2) := dk_25 5 (dk_at dksJ5_compress_2 0 rfl rfl)
theorem dJ5_compress_50 : decode cJ5_compress 50 = .ok (.iconst 0, 1) := dk_3 (dk_at dksJ5_compress_2 2 rfl rfl)
theorem dJ5_compress_51 : decode cJ5_compress 51 = .ok (.aload_n 3, 1) := dk_45 (dk_at dksJ5_compress_2 3 rfl rfl)
theorem dJ5_compress_52 : decode cJ5_compress 52 = .ok (.iconst 0, 1) := dk_3 (dk_at dksJ5_compress_2 4 rfl rfl)
theorem dJ5_compress_53 : decode cJ5_compress 53 = .ok (.iload_n 2, 1) := dk_28 (dk_at dksJ5_compress_2 5 rfl rfl)
theorem dJ5_compress_54 : decode cJ5_compress 54 = .ok (.invokestatic 123, 3) := dk_184 0 123 (dk_at dksJ5_compress_2 6 rfl rfl)
theorem dJ5_compress_57 : decode cJ5_compress 57 = .ok (.iload_n 2, 1) := dk_28 (dk_at dksJ5_compress_2 9 rfl rfl)
theorem dJ5_compress_58 : decode cJ5_compress 58 = .ok (.if_icmp .eq 6, 3) := dk_159 0 6 (dk_at dksJ5_compress_2 10 rfl rfl)
theorem dJ5_compress_61 : decode cJ5_compress 61 = .ok (.aload 5, 2) := dk_25 5 (dk_at dksJ5_compress_2 13 rfl rfl)
theorem dJ5_compress_63 : decode cJ5_compress 63 = .ok (.areturn, 1) := dk_176 (dk_at dksJ5_compress_2 15 rfl rfl)
theorem dJ5_compress_64 : decode cJ5_compress 64 = .ok (.aload_n 3, 1) := dk_45 (dk_at dksJ5_compress_2 16 rfl rfl)
theorem dJ5_compress_65 : decode cJ5_compress 65 = .ok (.areturn, 1) := dk_176 (dk_at dksJ5_compress_2 17 rfl rfl)
abbrev cJ5_compress_2 : ByteArray := prog_34_method_22_code
def yJ5_compress_2 : MethodName := ⟨RJ5, "compress", "([BI[BII)I"⟩
def dkwJ5_compress_2_2 : List UInt8 := [132, 5, 1, 167, 255, 216, 21, 4, 172]
abbrev dktJ5_compress_2_2 : List UInt8 := dkwJ5_compress_2_2 ++ []
def dkwJ5_compress_2_1 : List UInt8 := [21, 6, 17, 0, 255, 164, 0, 6, 21, 5, 172, 44, 29, 21, 6, 145, 84, 132, 1, 1, 132, 3, 1]
abbrev dktJ5_compress_2_1 : List UInt8 := dkwJ5_compress_2_1 ++ dktJ5_compress_2_2
def dkwJ5_compress_2_0 : List UInt8 := [27, 21, 4, 42, 184, 0, 173, 3, 54, 5, 21, 5, 21, 4, 162, 0, 39, 42, 27, 184, 0, 71, 54, 6]
abbrev dktJ5_compress_2_0 : List UInt8 := dkwJ5_compress_2_0 ++ dktJ5_compress_2_1
theorem dksJ5_compress_2_0 : cJ5_compress_2.data.toList.drop 0 = dktJ5_compress_2_0 := by decide +kernel
theorem dksJ5_compress_2_1 : cJ5_compress_2.data.toList.drop 24 = dktJ5_compress_2_1 := dk_seg dksJ5_compress_2_0 24 rfl rfl
theorem dksJ5_compress_2_2 : cJ5_compress_2.data.toList.drop 47 = dktJ5_compress_2_2 := dk_seg dksJ5_compress_2_1 23 rfl rfl
theorem dJ5_compress_2_0 : decode cJ5_compress_2 0 = .ok (.iload_n 1, 1) := dk_27 (dk_at dksJ5_compress_2_0 0 rfl rfl)
theorem dJ5_compress_2_1 : decode cJ5_compress_2 1 = .ok (.iload 4, 2) := dk_21 4 (dk_at dksJ5_compress_2_0 1 rfl rfl)
theorem dJ5_compress_2_3 : decode cJ5_compress_2 3 = .ok (.aload_n 0, 1) := dk_42 (dk_at dksJ5_compress_2_0 3 rfl rfl)
theorem dJ5_compress_2_4 : decode cJ5_compress_2 4 = .ok (.invokestatic 173, 3) := dk_184 0 173 (dk_at dksJ5_compress_2_0 4 rfl rfl)
theorem dJ5_compress_2_7 : decode cJ5_compress_2 7 = .ok (.iconst 0, 1) := dk_3 (dk_at dksJ5_compress_2_0 7 rfl rfl)
theorem dJ5_compress_2_8 : decode cJ5_compress_2 8 = .ok (.istore 5, 2) := dk_54 5 (dk_at dksJ5_compress_2_0 8 rfl rfl)
theorem dJ5_compress_2_10 : decode cJ5_compress_2 10 = .ok (.iload 5, 2) := dk_21 5 (dk_at dksJ5_compress_2_0 10 rfl rfl)
theorem dJ5_compress_2_12 : decode cJ5_compress_2 12 = .ok (.iload 4, 2) := dk_21 4 (dk_at dksJ5_compress_2_0 12 rfl rfl)
theorem dJ5_compress_2_14 : decode cJ5_compress_2 14 = .ok (.if_icmp .ge 39, 3) := dk_162 0 39 (dk_at dksJ5_compress_2_0 14 rfl rfl)
theorem dJ5_compress_2_17 : decode cJ5_compress_2 17 = .ok (.aload_n 0, 1) := dk_42 (dk_at dksJ5_compress_2_0 17 rfl rfl)
theorem dJ5_compress_2_18 : decode cJ5_compress_2 18 = .ok (.iload_n 1, 1) := dk_27 (dk_at dksJ5_compress_2_0 18 rfl rfl)
theorem dJ5_compress_2_19 : decode cJ5_compress_2 19 = .ok (.invokestatic 71, 3) := dk_184 0 71 (dk_at dksJ5_compress_2_0 19 rfl rfl)
theorem dJ5_compress_2_22 : decode cJ5_compress_2 22 = .ok (.istore 6, 2) := dk_54 6 (dk_at dksJ5_compress_2_0 22 rfl rfl)
theorem dJ5_compress_2_24 : decode cJ5_compress_2 24 = .ok (.iload 6, 2) := dk_21 6 (dk_at dksJ5_compress_2_1 0 rfl rfl)
theorem dJ5_compress_2_26 : decode cJ5_compress_2 26 = .ok (.sipush 255, 3) := dk_17 0 255 (dk_at dksJ5_compress_2_1 2 rfl rfl)
theorem dJ5_compress_2_29 : decode cJ5_compress_2 29 = .ok (.if_icmp .le 6, 3) := dk_164 0 6 (dk_at dksJ5_compress_2_1 5 rfl rfl)
theorem dJ5_compress_2_32 : decode cJ5_compress_2 32 = .ok (.iload 5, 2) := dk_21 5 (dk_at dksJ5_compress_2_1 8 rfl rfl)
theorem dJ5_compress_2_34 : decode cJ5_compress_2 34 = .ok (.ireturn, 1) := dk_172 (dk_at dksJ5_compress_2_1 10 rfl rfl)
theorem dJ5_compress_2_35 : decode cJ5_compress_2 35 = .ok (.aload_n 2, 1) := dk_44 (dk_at dksJ5_compress_2_1 11 rfl rfl)
theorem dJ5_compress_2_36 : decode cJ5_compress_2 36 = .ok (.iload_n 3, 1) := dk_29 (dk_at dksJ5_compress_2_1 12 rfl rfl)
theorem dJ5_compress_2_37 : decode cJ5_compress_2 37 = .ok (.iload 6, 2) := dk_21 6 (dk_at dksJ5_compress_2_1 13 rfl rfl)
theorem dJ5_compress_2_39 : decode cJ5_compress_2 39 = .ok (.i2b, 1) := dk_145 (dk_at dksJ5_compress_2_1 15 rfl rfl)
theorem dJ5_compress_2_40 : decode cJ5_compress_2 40 = .ok (.bastore, 1) := dk_84 (dk_at dksJ5_compress_2_1 16 rfl rfl)
theorem dJ5_compress_2_41 : decode cJ5_compress_2 41 = .ok (.iinc 1 1, 3) := dk_132 1 1 (dk_at dksJ5_compress_2_1 17 rfl rfl)
theorem dJ5_compress_2_44 : decode cJ5_compress_2 44 = .ok (.iinc 3 1, 3) := dk_132 3 1 (dk_at dksJ5_compress_2_1 20 rfl rfl)
theorem dJ5_compress_2_47 : decode cJ5_compress_2 47 = .ok (.iinc 5 1, 3) := dk_132 5 1 (dk_at dksJ5_compress_2_2 0 rfl rfl)
theorem dJ5_compress_2_50 : decode cJ5_compress_2 50 = .ok (.goto (-40), 3) := dk_167 255 216 (dk_at dksJ5_compress_2_2 3 rfl rfl)
theorem dJ5_compress_2_53 : decode cJ5_compress_2 53 = .ok (.iload 4, 2) := dk_21 4 (dk_at dksJ5_compress_2_2 6 rfl rfl)
theorem dJ5_compress_2_55 : decode cJ5_compress_2 55 = .ok (.ireturn, 1) := dk_172 (dk_at dksJ5_compress_2_2 8 rfl rfl)
abbrev cJ5_coderFromArrayLen : ByteArray := prog_34_method_15_code
def yJ5_coderFromArrayLen : MethodName := ⟨RJ5, "coderFromArrayLen", "([BI)B"⟩
def dkwJ5_coderFromArrayLen_0 : List UInt8 := [27, 42, 190, 100, 16, 31, 124, 145, 172]
abbrev dktJ5_coderFromArrayLen_0 : List UInt8 := dkwJ5_coderFromArrayLen_0 ++ []
theorem dksJ5_coderFromArrayLen_0 : cJ5_coderFromArrayLen.data.toList.drop 0 = dktJ5_coderFromArrayLen_0 := by decide +kernel
theorem dJ5_coderFromArrayLen_0 : decode cJ5_coderFromArrayLen 0 = .ok (.iload_n 1, 1) := dk_27 (dk_at dksJ5_coderFromArrayLen_0 0 rfl rfl)
theorem dJ5_coderFromArrayLen_1 : decode cJ5_coderFromArrayLen 1 = .ok (.aload_n 0, 1) := dk_42 (dk_at dksJ5_coderFromArrayLen_0 1 rfl rfl)
theorem dJ5_coderFromArrayLen_2 : decode cJ5_coderFromArrayLen 2 = .ok (.arraylength, 1) := dk_190 (dk_at dksJ5_coderFromArrayLen_0 2 rfl rfl)
theorem dJ5_coderFromArrayLen_3 : decode cJ5_coderFromArrayLen 3 = .ok (.isub, 1) := dk_100 (dk_at dksJ5_coderFromArrayLen_0 3 rfl rfl)
theorem dJ5_coderFromArrayLen_4 : decode cJ5_coderFromArrayLen 4 = .ok (.bipush 31, 2) := dk_16 31 (dk_at dksJ5_coderFromArrayLen_0 4 rfl rfl)
theorem dJ5_coderFromArrayLen_6 : decode cJ5_coderFromArrayLen 6 = .ok (.iushr, 1) := dk_124 (dk_at dksJ5_coderFromArrayLen_0 6 rfl rfl)
theorem dJ5_coderFromArrayLen_7 : decode cJ5_coderFromArrayLen 7 = .ok (.i2b, 1) := dk_145 (dk_at dksJ5_coderFromArrayLen_0 7 rfl rfl)
theorem dJ5_coderFromArrayLen_8 : decode cJ5_coderFromArrayLen 8 = .ok (.ireturn, 1) := dk_172 (dk_at dksJ5_coderFromArrayLen_0 8 rfl rfl)
abbrev cJ5_newString : ByteArray := prog_34_method_69_code
def yJ5_newString : MethodName := ⟨RJ5, "newString", "([BII)Ljava/lang/String;"⟩
def dkwJ5_newString_2 : List UInt8 := [42, 27, 4, 120, 29, 4, 120, 184, 0, 126, 4, 183, 1, 7, 176]
abbrev dktJ5_newString_2 : List UInt8 := dkwJ5_newString_2 ++ []
def dkwJ5_newString_1 : List UInt8 := [184, 1, 3, 54, 4, 187, 0, 3, 89, 45, 21, 4, 183, 1, 7, 176, 27, 28, 96, 62, 187, 0, 3, 89]
abbrev dktJ5_newString_1 : List UInt8 := dkwJ5_newString_1 ++ dktJ5_newString_2
def dkwJ5_newString_0 : List UInt8 := [28, 154, 0, 7, 19, 1, 39, 176, 178, 0, 251, 153, 0, 28, 42, 27, 28, 184, 1, 1, 78, 45, 28]
abbrev dktJ5_newString_0 : List UInt8 := dkwJ5_newString_0 ++ dktJ5_newString_1
theorem dksJ5_newString_0 : cJ5_newString.data.toList.drop 0 = dktJ5_newString_0 := by decide +kernel
theorem dksJ5_newString_1 : cJ5_newString.data.toList.drop 23 = dktJ5_newString_1 := dk_seg dksJ5_newString_0 23 rfl rfl
theorem dksJ5_newString_2 : cJ5_newString.data.toList.drop 47 = dktJ5_newString_2 := dk_seg dksJ5_newString_1 24 rfl rfl
theorem dJ5_newString_0 : decode cJ5_newString 0 = .ok (.iload_n 2, 1) := dk_28 (dk_at dksJ5_newString_0 0 rfl rfl)
theorem dJ5_newString_1 : decode cJ5_newString 1 = .ok (.ifCond .ne 7, 3) := dk_154 0 7 (dk_at dksJ5_newString_0 1 rfl rfl)
theorem dJ5_newString_4 : decode cJ5_newString 4 = .ok (.ldc_w 295, 3) := dk_19 1 39 (dk_at dksJ5_newString_0 4 rfl rfl)
theorem dJ5_newString_7 : decode cJ5_newString 7 = .ok (.areturn, 1) := dk_176 (dk_at dksJ5_newString_0 7 rfl rfl)
theorem dJ5_newString_8 : decode cJ5_newString 8 = .ok (.getstatic 251, 3) := dk_178 0 251 (dk_at dksJ5_newString_0 8 rfl rfl)
theorem dJ5_newString_11 : decode cJ5_newString 11 = .ok (.ifCond .eq 28, 3) := dk_153 0 28 (dk_at dksJ5_newString_0 11 rfl rfl)
theorem dJ5_newString_14 : decode cJ5_newString 14 = .ok (.aload_n 0, 1) := dk_42 (dk_at dksJ5_newString_0 14 rfl rfl)
theorem dJ5_newString_15 : decode cJ5_newString 15 = .ok (.iload_n 1, 1) := dk_27 (dk_at dksJ5_newString_0 15 rfl rfl)
theorem dJ5_newString_16 : decode cJ5_newString 16 = .ok (.iload_n 2, 1) := dk_28 (dk_at dksJ5_newString_0 16 rfl rfl)
theorem dJ5_newString_17 : decode cJ5_newString 17 = .ok (.invokestatic 257, 3) := dk_184 1 1 (dk_at dksJ5_newString_0 17 rfl rfl)
theorem dJ5_newString_20 : decode cJ5_newString 20 = .ok (.astore_n 3, 1) := dk_78 (dk_at dksJ5_newString_0 20 rfl rfl)
theorem dJ5_newString_21 : decode cJ5_newString 21 = .ok (.aload_n 3, 1) := dk_45 (dk_at dksJ5_newString_0 21 rfl rfl)
theorem dJ5_newString_22 : decode cJ5_newString 22 = .ok (.iload_n 2, 1) := dk_28 (dk_at dksJ5_newString_0 22 rfl rfl)
theorem dJ5_newString_23 : decode cJ5_newString 23 = .ok (.invokestatic 259, 3) := dk_184 1 3 (dk_at dksJ5_newString_1 0 rfl rfl)
theorem dJ5_newString_26 : decode cJ5_newString 26 = .ok (.istore 4, 2) := dk_54 4 (dk_at dksJ5_newString_1 3 rfl rfl)
theorem dJ5_newString_28 : decode cJ5_newString 28 = .ok (.new 3, 3) := dk_187 0 3 (dk_at dksJ5_newString_1 5 rfl rfl)
theorem dJ5_newString_31 : decode cJ5_newString 31 = .ok (.dup, 1) := dk_89 (dk_at dksJ5_newString_1 8 rfl rfl)
theorem dJ5_newString_32 : decode cJ5_newString 32 = .ok (.aload_n 3, 1) := dk_45 (dk_at dksJ5_newString_1 9 rfl rfl)
theorem dJ5_newString_33 : decode cJ5_newString 33 = .ok (.iload 4, 2) := dk_21 4 (dk_at dksJ5_newString_1 10 rfl rfl)
theorem dJ5_newString_35 : decode cJ5_newString 35 = .ok (.invokespecial 263, 3) := dk_183 1 7 (dk_at dksJ5_newString_1 12 rfl rfl)
theorem dJ5_newString_38 : decode cJ5_newString 38 = .ok (.areturn, 1) := dk_176 (dk_at dksJ5_newString_1 15 rfl rfl)
theorem dJ5_newString_39 : decode cJ5_newString 39 = .ok (.iload_n 1, 1) := dk_27 (dk_at dksJ5_newString_1 16 rfl rfl)
theorem dJ5_newString_40 : decode cJ5_newString 40 = .ok (.iload_n 2, 1) := dk_28 (dk_at dksJ5_newString_1 17 rfl rfl)
theorem dJ5_newString_41 : decode cJ5_newString 41 = .ok (.iadd, 1) := dk_96 (dk_at dksJ5_newString_1 18 rfl rfl)
theorem dJ5_newString_42 : decode cJ5_newString 42 = .ok (.istore_n 3, 1) := dk_62 (dk_at dksJ5_newString_1 19 rfl rfl)
theorem dJ5_newString_43 : decode cJ5_newString 43 = .ok (.new 3, 3) := dk_187 0 3 (dk_at dksJ5_newString_1 20 rfl rfl)
theorem dJ5_newString_46 : decode cJ5_newString 46 = .ok (.dup, 1) := dk_89 (dk_at dksJ5_newString_1 23 rfl rfl)
theorem dJ5_newString_47 : decode cJ5_newString 47 = .ok (.aload_n 0, 1) := dk_42 (dk_at dksJ5_newString_2 0 rfl rfl)
theorem dJ5_newString_48 : decode cJ5_newString 48 = .ok (.iload_n 1, 1) := dk_27 (dk_at dksJ5_newString_2 1 rfl rfl)
theorem dJ5_newString_49 : decode cJ5_newString 49 = .ok (.iconst 1, 1) := dk_4 (dk_at dksJ5_newString_2 2 rfl rfl)
theorem dJ5_newString_50 : decode cJ5_newString 50 = .ok (.ishl, 1) := dk_120 (dk_at dksJ5_newString_2 3 rfl rfl)
theorem dJ5_newString_51 : decode cJ5_newString 51 = .ok (.iload_n 3, 1) := dk_29 (dk_at dksJ5_newString_2 4 rfl rfl)
theorem dJ5_newString_52 : decode cJ5_newString 52 = .ok (.iconst 1, 1) := dk_4 (dk_at dksJ5_newString_2 5 rfl rfl)
theorem dJ5_newString_53 : decode cJ5_newString 53 = .ok (.ishl, 1) := dk_120 (dk_at dksJ5_newString_2 6 rfl rfl)
theorem dJ5_newString_54 : decode cJ5_newString 54 = .ok (.invokestatic 126, 3) := dk_184 0 126 (dk_at dksJ5_newString_2 7 rfl rfl)
theorem dJ5_newString_57 : decode cJ5_newString 57 = .ok (.iconst 1, 1) := dk_4 (dk_at dksJ5_newString_2 10 rfl rfl)
theorem dJ5_newString_58 : decode cJ5_newString 58 = .ok (.invokespecial 263, 3) := dk_183 1 7 (dk_at dksJ5_newString_2 11 rfl rfl)
theorem dJ5_newString_61 : decode cJ5_newString 61 = .ok (.areturn, 1) := dk_176 (dk_at dksJ5_newString_2 14 rfl rfl)
abbrev cJ5_hashCode : ByteArray := prog_34_method_39_code
def yJ5_hashCode : MethodName := ⟨RJ5, "hashCode", "([B)I"⟩
def dkwJ5_hashCode_2 : List UInt8 := [3, 167, 0, 22, 42, 3, 184, 0, 71, 167, 0, 14, 42, 3, 42, 190, 4, 122, 3, 8, 184, 0, 220, 172]
abbrev dktJ5_hashCode_2 : List UInt8 := dkwJ5_hashCode_2 ++ []
def dkwJ5_hashCode_1 : List UInt8 := [171, 0, 0, 0, 0, 38, 0, 0, 0, 2, 0, 0, 0, 0, 0, 0, 0, 26, 0, 0, 0, 2, 0, 0, 0, 30]
abbrev dktJ5_hashCode_1 : List UInt8 := dkwJ5_hashCode_1 ++ dktJ5_hashCode_2
def dkwJ5_hashCode_0 : List UInt8 := [42, 190]
abbrev dktJ5_hashCode_0 : List UInt8 := dkwJ5_hashCode_0 ++ dktJ5_hashCode_1
theorem dksJ5_hashCode_0 : cJ5_hashCode.data.toList.drop 0 = dktJ5_hashCode_0 := by decide +kernel
theorem dksJ5_hashCode_1 : cJ5_hashCode.data.toList.drop 2 = dktJ5_hashCode_1 := dk_seg dksJ5_hashCode_0 2 rfl rfl
theorem dksJ5_hashCode_2 : cJ5_hashCode.data.toList.drop 28 = dktJ5_hashCode_2 := dk_seg dksJ5_hashCode_1 26 rfl rfl
theorem dJ5_hashCode_0 : decode cJ5_hashCode 0 = .ok (.aload_n 0, 1) := dk_42 (dk_at dksJ5_hashCode_0 0 rfl rfl)
theorem dJ5_hashCode_1 : decode cJ5_hashCode 1 = .ok (.arraylength, 1) := dk_190 (dk_at dksJ5_hashCode_0 1 rfl rfl)
theorem dJ5_hashCode_2 : decode cJ5_hashCode 2 = .ok (.lookupswitch 38 #[(0, 26), (2, 30)], 26) := by decide +kernel
theorem dJ5_hashCode_28 : decode cJ5_hashCode 28 = .ok (.iconst 0, 1) := dk_3 (dk_at dksJ5_hashCode_2 0 rfl rfl)
theorem dJ5_hashCode_29 : decode cJ5_hashCode 29 = .ok (.goto 22, 3) := dk_167 0 22 (dk_at dksJ5_hashCode_2 1 rfl rfl)
theorem dJ5_hashCode_32 : decode cJ5_hashCode 32 = .ok (.aload_n 0, 1) := dk_42 (dk_at dksJ5_hashCode_2 4 rfl rfl)
theorem dJ5_hashCode_33 : decode cJ5_hashCode 33 = .ok (.iconst 0, 1) := dk_3 (dk_at dksJ5_hashCode_2 5 rfl rfl)
theorem dJ5_hashCode_34 : decode cJ5_hashCode 34 = .ok (.invokestatic 71, 3) := dk_184 0 71 (dk_at dksJ5_hashCode_2 6 rfl rfl)
theorem dJ5_hashCode_37 : decode cJ5_hashCode 37 = .ok (.goto 14, 3) := dk_167 0 14 (dk_at dksJ5_hashCode_2 9 rfl rfl)
theorem dJ5_hashCode_40 : decode cJ5_hashCode 40 = .ok (.aload_n 0, 1) := dk_42 (dk_at dksJ5_hashCode_2 12 rfl rfl)
theorem dJ5_hashCode_41 : decode cJ5_hashCode 41 = .ok (.iconst 0, 1) := dk_3 (dk_at dksJ5_hashCode_2 13 rfl rfl)
theorem dJ5_hashCode_42 : decode cJ5_hashCode 42 = .ok (.aload_n 0, 1) := dk_42 (dk_at dksJ5_hashCode_2 14 rfl rfl)
theorem dJ5_hashCode_43 : decode cJ5_hashCode 43 = .ok (.arraylength, 1) := dk_190 (dk_at dksJ5_hashCode_2 15 rfl rfl)
theorem dJ5_hashCode_44 : decode cJ5_hashCode 44 = .ok (.iconst 1, 1) := dk_4 (dk_at dksJ5_hashCode_2 16 rfl rfl)
theorem dJ5_hashCode_45 : decode cJ5_hashCode 45 = .ok (.ishr, 1) := dk_122 (dk_at dksJ5_hashCode_2 17 rfl rfl)
theorem dJ5_hashCode_46 : decode cJ5_hashCode 46 = .ok (.iconst 0, 1) := dk_3 (dk_at dksJ5_hashCode_2 18 rfl rfl)
theorem dJ5_hashCode_47 : decode cJ5_hashCode 47 = .ok (.iconst 5, 1) := dk_8 (dk_at dksJ5_hashCode_2 19 rfl rfl)
theorem dJ5_hashCode_48 : decode cJ5_hashCode 48 = .ok (.invokestatic 220, 3) := dk_184 0 220 (dk_at dksJ5_hashCode_2 20 rfl rfl)
theorem dJ5_hashCode_51 : decode cJ5_hashCode 51 = .ok (.ireturn, 1) := dk_172 (dk_at dksJ5_hashCode_2 23 rfl rfl)
abbrev cJ5_putCharSB : ByteArray := prog_34_method_71_code
def yJ5_putCharSB : MethodName := ⟨RJ5, "putCharSB", "([BII)V"⟩
def dkwJ5_putCharSB_0 : List UInt8 := [27, 42, 184, 0, 67, 42, 27, 28, 184, 0, 111, 177]
abbrev dktJ5_putCharSB_0 : List UInt8 := dkwJ5_putCharSB_0 ++ []
theorem dksJ5_putCharSB_0 : cJ5_putCharSB.data.toList.drop 0 = dktJ5_putCharSB_0 := by decide +kernel
theorem dJ5_putCharSB_0 : decode cJ5_putCharSB 0 = .ok (.iload_n 1, 1) := dk_27 (dk_at dksJ5_putCharSB_0 0 rfl rfl)
theorem dJ5_putCharSB_1 : decode cJ5_putCharSB 1 = .ok (.aload_n 0, 1) := dk_42 (dk_at dksJ5_putCharSB_0 1 rfl rfl)
theorem dJ5_putCharSB_2 : decode cJ5_putCharSB 2 = .ok (.invokestatic 67, 3) := dk_184 0 67 (dk_at dksJ5_putCharSB_0 2 rfl rfl)
theorem dJ5_putCharSB_5 : decode cJ5_putCharSB 5 = .ok (.aload_n 0, 1) := dk_42 (dk_at dksJ5_putCharSB_0 5 rfl rfl)
theorem dJ5_putCharSB_6 : decode cJ5_putCharSB 6 = .ok (.iload_n 1, 1) := dk_27 (dk_at dksJ5_putCharSB_0 6 rfl rfl)
theorem dJ5_putCharSB_7 : decode cJ5_putCharSB 7 = .ok (.iload_n 2, 1) := dk_28 (dk_at dksJ5_putCharSB_0 7 rfl rfl)
theorem dJ5_putCharSB_8 : decode cJ5_putCharSB 8 = .ok (.invokestatic 111, 3) := dk_184 0 111 (dk_at dksJ5_putCharSB_0 8 rfl rfl)
theorem dJ5_putCharSB_11 : decode cJ5_putCharSB 11 = .ok (.return_, 1) := dk_177 (dk_at dksJ5_putCharSB_0 11 rfl rfl)
abbrev cJ5_fillNull : ByteArray := prog_34_method_70_code
def yJ5_fillNull : MethodName := ⟨RJ5, "fillNull", "([BII)V"⟩
def dkwJ5_fillNull_0 : List UInt8 := [42, 27, 4, 120, 28, 4, 120, 3, 184, 1, 124, 177]
abbrev dktJ5_fillNull_0 : List UInt8 := dkwJ5_fillNull_0 ++ []
theorem dksJ5_fillNull_0 : cJ5_fillNull.data.toList.drop 0 = dktJ5_fillNull_0 := by decide +kernel
theorem dJ5_fillNull_0 : decode cJ5_fillNull 0 = .ok (.aload_n 0, 1) := dk_42 (dk_at dksJ5_fillNull_0 0 rfl rfl)
theorem dJ5_fillNull_1 : decode cJ5_fillNull 1 = .ok (.iload_n 1, 1) := dk_27 (dk_at dksJ5_fillNull_0 1 rfl rfl)
theorem dJ5_fillNull_2 : decode cJ5_fillNull 2 = .ok (.iconst 1, 1) := dk_4 (dk_at dksJ5_fillNull_0 2 rfl rfl)
theorem dJ5_fillNull_3 : decode cJ5_fillNull 3 = .ok (.ishl, 1) := dk_120 (dk_at dksJ5_fillNull_0 3 rfl rfl)
theorem dJ5_fillNull_4 : decode cJ5_fillNull 4 = .ok (.iload_n 2, 1) := dk_28 (dk_at dksJ5_fillNull_0 4 rfl rfl)
theorem dJ5_fillNull_5 : decode cJ5_fillNull 5 = .ok (.iconst 1, 1) := dk_4 (dk_at dksJ5_fillNull_0 5 rfl rfl)
theorem dJ5_fillNull_6 : decode cJ5_fillNull 6 = .ok (.ishl, 1) := dk_120 (dk_at dksJ5_fillNull_0 6 rfl rfl)
theorem dJ5_fillNull_7 : decode cJ5_fillNull 7 = .ok (.iconst 0, 1) := dk_3 (dk_at dksJ5_fillNull_0 7 rfl rfl)
theorem dJ5_fillNull_8 : decode cJ5_fillNull 8 = .ok (.invokestatic 380, 3) := dk_184 1 124 (dk_at dksJ5_fillNull_0 8 rfl rfl)
theorem dJ5_fillNull_11 : decode cJ5_fillNull 11 = .ok (.return_, 1) := dk_177 (dk_at dksJ5_fillNull_0 11 rfl rfl)
theorem q122 : (Jvm.Cond.initialized "java/lang/StringUTF16") ∈ lw_all := lw_g (lw_at lw_m1 7 rfl) rfl
theorem q197 : (Jvm.Cond.static ({ cls := "java/lang/StringUTF16", name := "newBytesFor", desc := "(I)[B" } : Jvm.MethodName)) ∈ lw_all := lw_g (lw_at lw_m1 82 rfl) rfl
theorem q198 : (Jvm.Cond.code ({ cls := "java/lang/StringUTF16", name := "newBytesFor", desc := "(I)[B" } : Jvm.MethodName) prog_34_method_2_code (1 : Nat) (Option.some (Jvm.ClassFile.FieldType.array Jvm.ClassFile.FieldType.byte))) ∈ lw_all := lw_g (lw_at lw_m1 83 rfl) rfl
theorem q199 : (Jvm.Cond.methodLink "java/lang/StringUTF16" (11 : Nat) ({ cls := "java/lang/StringUTF16", name := "newBytesLength", desc := "(I)I" } : Jvm.MethodName)) ∈ lw_all := lw_g (lw_at lw_m1 84 rfl) rfl
theorem q200 : (Jvm.Cond.static ({ cls := "java/lang/StringUTF16", name := "newBytesLength", desc := "(I)I" } : Jvm.MethodName)) ∈ lw_all := lw_g (lw_at lw_m1 85 rfl) rfl
theorem q201 : (Jvm.Cond.code ({ cls := "java/lang/StringUTF16", name := "newBytesLength", desc := "(I)I" } : Jvm.MethodName) prog_34_method_3_code (1 : Nat) (Option.some Jvm.ClassFile.FieldType.int)) ∈ lw_all := lw_g (lw_at lw_m1 86 rfl) rfl
theorem q202 : (Jvm.Cond.constant "java/lang/StringUTF16" (20 : Nat) (1073741823 : Int32)) ∈ lw_all := lw_g (lw_at lw_m1 87 rfl) rfl
theorem q335 : (Jvm.Cond.static ({ cls := "java/lang/StringUTF16", name := "charAt", desc := "([BI)C" } : Jvm.MethodName)) ∈ lw_all := lw_g (lw_at lw_m1 220 rfl) rfl
theorem q336 : (Jvm.Cond.code ({ cls := "java/lang/StringUTF16", name := "charAt", desc := "([BI)C" } : Jvm.MethodName) prog_34_method_83_code (2 : Nat) (Option.some Jvm.ClassFile.FieldType.char)) ∈ lw_all := lw_g (lw_at lw_m1 221 rfl) rfl
theorem q337 : (Jvm.Cond.methodLink "java/lang/StringUTF16" (67 : Nat) ({ cls := "java/lang/StringUTF16", name := "checkIndex", desc := "(I[B)V" } : Jvm.MethodName)) ∈ lw_all := lw_g (lw_at lw_m1 222 rfl) rfl
theorem q338 : (Jvm.Cond.static ({ cls := "java/lang/StringUTF16", name := "checkIndex", desc := "(I[B)V" } : Jvm.MethodName)) ∈ lw_all := lw_g (lw_at lw_m1 223 rfl) rfl
theorem q339 : (Jvm.Cond.code ({ cls := "java/lang/StringUTF16", name := "checkIndex", desc := "(I[B)V" } : Jvm.MethodName) prog_34_method_91_code (2 : Nat) (Option.none : Option Jvm.ClassFile.FieldType)) ∈ lw_all := lw_g (lw_at lw_m1 224 rfl) rfl
theorem q340 : (Jvm.Cond.methodLink "java/lang/StringUTF16" (48 : Nat) ({ cls := "java/lang/StringUTF16", name := "length", desc := "([B)I" } : Jvm.MethodName)) ∈ lw_all := lw_g (lw_at lw_m1 225 rfl) rfl
theorem q341 : (Jvm.Cond.static ({ cls := "java/lang/StringUTF16", name := "length", desc := "([B)I" } : Jvm.MethodName)) ∈ lw_all := lw_g (lw_at lw_m1 226 rfl) rfl
theorem q342 : (Jvm.Cond.code ({ cls := "java/lang/StringUTF16", name := "length", desc := "([B)I" } : Jvm.MethodName) prog_34_method_6_code (1 : Nat) (Option.some Jvm.ClassFile.FieldType.int)) ∈ lw_all := lw_g (lw_at lw_m1 227 rfl) rfl
theorem q343 : (Jvm.Cond.methodLink "java/lang/StringUTF16" (414 : Nat) ({ cls := "java/lang/String", name := "checkIndex", desc := "(II)V" } : Jvm.MethodName)) ∈ lw_all := lw_g (lw_at lw_m1 228 rfl) rfl
theorem q344 : (Jvm.Cond.methodLink "java/lang/StringUTF16" (71 : Nat) ({ cls := "java/lang/StringUTF16", name := "getChar", desc := "([BI)C" } : Jvm.MethodName)) ∈ lw_all := lw_g (lw_at lw_m1 229 rfl) rfl
theorem q345 : (Jvm.Cond.static ({ cls := "java/lang/StringUTF16", name := "getChar", desc := "([BI)C" } : Jvm.MethodName)) ∈ lw_all := lw_g (lw_at lw_m1 230 rfl) rfl
theorem q346 : (Jvm.Cond.code ({ cls := "java/lang/StringUTF16", name := "getChar", desc := "([BI)C" } : Jvm.MethodName) prog_34_method_5_code (2 : Nat) (Option.some Jvm.ClassFile.FieldType.char)) ∈ lw_all := lw_g (lw_at lw_m1 231 rfl) rfl
theorem q347 : (Jvm.Cond.fieldLink "java/lang/StringUTF16" (44 : Nat) "java/lang/StringUTF16" "$assertionsDisabled" "Z") ∈ lw_all := lw_g (lw_at lw_m1 232 rfl) rfl
theorem q348 : (Jvm.Cond.laysStatic "java/lang/StringUTF16" "$assertionsDisabled" "Z") ∈ lw_tbl := lw_at lw_m1 233 rfl
theorem q349 : (Jvm.Cond.fieldLink "java/lang/StringUTF16" (59 : Nat) "java/lang/StringUTF16" "HI_BYTE_SHIFT" "I") ∈ lw_all := lw_g (lw_at lw_m1 234 rfl) rfl
theorem q350 : (Jvm.Cond.laysStatic "java/lang/StringUTF16" "HI_BYTE_SHIFT" "I") ∈ lw_tbl := lw_at lw_m1 235 rfl
theorem q351 : (Jvm.Cond.fieldLink "java/lang/StringUTF16" (63 : Nat) "java/lang/StringUTF16" "LO_BYTE_SHIFT" "I") ∈ lw_all := lw_g (lw_at lw_m1 236 rfl) rfl
theorem q352 : (Jvm.Cond.laysStatic "java/lang/StringUTF16" "LO_BYTE_SHIFT" "I") ∈ lw_tbl := lw_at lw_m1 237 rfl
theorem q484 : (Jvm.Cond.static ({ cls := "java/lang/StringUTF16", name := "getChars", desc := "(III[B)I" } : Jvm.MethodName)) ∈ lw_all := lw_g (lw_at lw_m2 129 rfl) rfl
theorem q485 : (Jvm.Cond.code ({ cls := "java/lang/StringUTF16", name := "getChars", desc := "(III[B)I" } : Jvm.MethodName) prog_34_method_77_code (5 : Nat) (Option.some Jvm.ClassFile.FieldType.int)) ∈ lw_all := lw_g (lw_at lw_m2 130 rfl) rfl
theorem q486 : (Jvm.Cond.methodLink "java/lang/StringUTF16" (96 : Nat) ({ cls := "java/lang/StringUTF16", name := "checkBoundsBeginEnd", desc := "(II[B)V" } : Jvm.MethodName)) ∈ lw_all := lw_g (lw_at lw_m2 131 rfl) rfl
theorem q487 : (Jvm.Cond.static ({ cls := "java/lang/StringUTF16", name := "checkBoundsBeginEnd", desc := "(II[B)V" } : Jvm.MethodName)) ∈ lw_all := lw_g (lw_at lw_m2 132 rfl) rfl
theorem q488 : (Jvm.Cond.code ({ cls := "java/lang/StringUTF16", name := "checkBoundsBeginEnd", desc := "(II[B)V" } : Jvm.MethodName) prog_34_method_93_code (3 : Nat) (Option.none : Option Jvm.ClassFile.FieldType)) ∈ lw_all := lw_g (lw_at lw_m2 133 rfl) rfl
theorem q489 : (Jvm.Cond.methodLink "java/lang/StringUTF16" (241 : Nat) ({ cls := "java/lang/String", name := "checkBoundsBeginEnd", desc := "(III)V" } : Jvm.MethodName)) ∈ lw_all := lw_g (lw_at lw_m2 134 rfl) rfl
theorem q490 : (Jvm.Cond.methodLink "java/lang/StringUTF16" (393 : Nat) ({ cls := "java/lang/StringUTF16", name := "getChars", desc := "(II[B)I" } : Jvm.MethodName)) ∈ lw_all := lw_g (lw_at lw_m2 135 rfl) rfl
theorem q491 : (Jvm.Cond.static ({ cls := "java/lang/StringUTF16", name := "getChars", desc := "(II[B)I" } : Jvm.MethodName)) ∈ lw_all := lw_g (lw_at lw_m2 136 rfl) rfl
theorem q492 : (Jvm.Cond.code ({ cls := "java/lang/StringUTF16", name := "getChars", desc := "(II[B)I" } : Jvm.MethodName) prog_34_method_89_code (7 : Nat) (Option.some Jvm.ClassFile.FieldType.int)) ∈ lw_all := lw_g (lw_at lw_m2 137 rfl) rfl
theorem q493 : (Jvm.Cond.fieldLink "java/lang/StringUTF16" (403 : Nat) "java/lang/Integer" "DigitOnes" "[B") ∈ lw_all := lw_g (lw_at lw_m2 138 rfl) rfl
theorem q494 : (Jvm.Cond.methodLink "java/lang/StringUTF16" (111 : Nat) ({ cls := "java/lang/StringUTF16", name := "putChar", desc := "([BII)V" } : Jvm.MethodName)) ∈ lw_all := lw_g (lw_at lw_m2 139 rfl) rfl
theorem q495 : (Jvm.Cond.static ({ cls := "java/lang/StringUTF16", name := "putChar", desc := "([BII)V" } : Jvm.MethodName)) ∈ lw_all := lw_g (lw_at lw_m2 140 rfl) rfl
theorem q496 : (Jvm.Cond.code ({ cls := "java/lang/StringUTF16", name := "putChar", desc := "([BII)V" } : Jvm.MethodName) prog_34_method_4_code (3 : Nat) (Option.none : Option Jvm.ClassFile.FieldType)) ∈ lw_all := lw_g (lw_at lw_m2 141 rfl) rfl
theorem q497 : (Jvm.Cond.fieldLink "java/lang/StringUTF16" (407 : Nat) "java/lang/Integer" "DigitTens" "[B") ∈ lw_all := lw_g (lw_at lw_m2 142 rfl) rfl
theorem q511 : (Jvm.Cond.static ({ cls := "java/lang/StringUTF16", name := "putCharsAt", desc := "([BICCCC)I" } : Jvm.MethodName)) ∈ lw_all := lw_g (lw_at lw_m2 156 rfl) rfl
theorem q512 : (Jvm.Cond.code ({ cls := "java/lang/StringUTF16", name := "putCharsAt", desc := "([BICCCC)I" } : Jvm.MethodName) prog_34_method_81_code (7 : Nat) (Option.some Jvm.ClassFile.FieldType.int)) ∈ lw_all := lw_g (lw_at lw_m2 157 rfl) rfl
theorem q531 : (Jvm.Cond.static ({ cls := "java/lang/StringUTF16", name := "inflate", desc := "([BI[BII)V" } : Jvm.MethodName)) ∈ lw_all := lw_g (lw_at lw_m2 176 rfl) rfl
theorem q532 : (Jvm.Cond.code ({ cls := "java/lang/StringUTF16", name := "inflate", desc := "([BI[BII)V" } : Jvm.MethodName) prog_34_method_86_code (6 : Nat) (Option.none : Option Jvm.ClassFile.FieldType)) ∈ lw_all := lw_g (lw_at lw_m2 177 rfl) rfl
theorem q533 : (Jvm.Cond.methodLink "java/lang/StringUTF16" (173 : Nat) ({ cls := "java/lang/StringUTF16", name := "checkBoundsOffCount", desc := "(II[B)V" } : Jvm.MethodName)) ∈ lw_all := lw_g (lw_at lw_m2 178 rfl) rfl
theorem q534 : (Jvm.Cond.static ({ cls := "java/lang/StringUTF16", name := "checkBoundsOffCount", desc := "(II[B)V" } : Jvm.MethodName)) ∈ lw_all := lw_g (lw_at lw_m2 179 rfl) rfl
theorem q535 : (Jvm.Cond.code ({ cls := "java/lang/StringUTF16", name := "checkBoundsOffCount", desc := "(II[B)V" } : Jvm.MethodName) prog_34_method_94_code (3 : Nat) (Option.none : Option Jvm.ClassFile.FieldType)) ∈ lw_all := lw_g (lw_at lw_m2 180 rfl) rfl
theorem q536 : (Jvm.Cond.methodLink "java/lang/StringUTF16" (419 : Nat) ({ cls := "java/lang/String", name := "checkBoundsOffCount", desc := "(III)I" } : Jvm.MethodName)) ∈ lw_all := lw_g (lw_at lw_m2 181 rfl) rfl
theorem q576 : (Jvm.Cond.static ({ cls := "java/lang/StringUTF16", name := "compress", desc := "([BII)[B" } : Jvm.MethodName)) ∈ lw_all := lw_g (lw_at lw_m2 221 rfl) rfl
theorem q577 : (Jvm.Cond.code ({ cls := "java/lang/StringUTF16", name := "compress", desc := "([BII)[B" } : Jvm.MethodName) prog_34_method_17_code (6 : Nat) (Option.some (Jvm.ClassFile.FieldType.array Jvm.ClassFile.FieldType.byte))) ∈ lw_all := lw_g (lw_at lw_m2 222 rfl) rfl
theorem q578 : (Jvm.Cond.methodLink "java/lang/StringUTF16" (123 : Nat) ({ cls := "java/lang/StringUTF16", name := "compress", desc := "([BI[BII)I" } : Jvm.MethodName)) ∈ lw_all := lw_g (lw_at lw_m2 223 rfl) rfl
theorem q579 : (Jvm.Cond.static ({ cls := "java/lang/StringUTF16", name := "compress", desc := "([BI[BII)I" } : Jvm.MethodName)) ∈ lw_all := lw_g (lw_at lw_m2 224 rfl) rfl
theorem q580 : (Jvm.Cond.code ({ cls := "java/lang/StringUTF16", name := "compress", desc := "([BI[BII)I" } : Jvm.MethodName) prog_34_method_22_code (7 : Nat) (Option.some Jvm.ClassFile.FieldType.int)) ∈ lw_all := lw_g (lw_at lw_m2 225 rfl) rfl
theorem q581 : (Jvm.Cond.methodLink "java/lang/StringUTF16" (126 : Nat) ({ cls := "java/util/Arrays", name := "copyOfRange", desc := "([BII)[B" } : Jvm.MethodName)) ∈ lw_all := lw_g (lw_at lw_m2 226 rfl) rfl
theorem q583 : (Jvm.Cond.static ({ cls := "java/lang/StringUTF16", name := "coderFromArrayLen", desc := "([BI)B" } : Jvm.MethodName)) ∈ lw_all := lw_g (lw_at lw_m2 228 rfl) rfl
theorem q584 : (Jvm.Cond.code ({ cls := "java/lang/StringUTF16", name := "coderFromArrayLen", desc := "([BI)B" } : Jvm.MethodName) prog_34_method_15_code (2 : Nat) (Option.some Jvm.ClassFile.FieldType.byte)) ∈ lw_all := lw_g (lw_at lw_m2 229 rfl) rfl
theorem q627 : (Jvm.Cond.static ({ cls := "java/lang/StringUTF16", name := "newString", desc := "([BII)Ljava/lang/String;" } : Jvm.MethodName)) ∈ lw_all := lw_g (lw_at lw_m3 32 rfl) rfl
theorem q628 : (Jvm.Cond.code ({ cls := "java/lang/StringUTF16", name := "newString", desc := "([BII)Ljava/lang/String;" } : Jvm.MethodName) prog_34_method_69_code (5 : Nat) (Option.some (Jvm.ClassFile.FieldType.object "java/lang/String"))) ∈ lw_all := lw_g (lw_at lw_m3 33 rfl) rfl
theorem q629 : (Jvm.Cond.stringRef "java/lang/StringUTF16" (295 : Nat) "") ∈ lw_tbl := lw_at lw_m3 34 rfl
theorem q630 : (Jvm.Cond.fieldLink "java/lang/StringUTF16" (251 : Nat) "java/lang/String" "COMPACT_STRINGS" "Z") ∈ lw_all := lw_g (lw_at lw_m3 35 rfl) rfl
theorem q631 : (Jvm.Cond.methodLink "java/lang/StringUTF16" (257 : Nat) ({ cls := "java/lang/StringUTF16", name := "compress", desc := "([BII)[B" } : Jvm.MethodName)) ∈ lw_all := lw_g (lw_at lw_m3 36 rfl) rfl
theorem q632 : (Jvm.Cond.methodLink "java/lang/StringUTF16" (259 : Nat) ({ cls := "java/lang/StringUTF16", name := "coderFromArrayLen", desc := "([BI)B" } : Jvm.MethodName)) ∈ lw_all := lw_g (lw_at lw_m3 37 rfl) rfl
theorem q633 : (Jvm.Cond.classLink "java/lang/StringUTF16" (3 : Nat) "java/lang/String") ∈ lw_all := lw_g (lw_at lw_m3 38 rfl) rfl
theorem q634 : (Jvm.Cond.methodLink "java/lang/StringUTF16" (263 : Nat) ({ cls := "java/lang/String", name := "<init>", desc := "([BB)V" } : Jvm.MethodName)) ∈ lw_all := lw_g (lw_at lw_m3 39 rfl) rfl
theorem q799 : (Jvm.Cond.static ({ cls := "java/lang/StringUTF16", name := "hashCode", desc := "([B)I" } : Jvm.MethodName)) ∈ lw_all := lw_g (lw_at lw_m3 204 rfl) rfl
theorem q800 : (Jvm.Cond.code ({ cls := "java/lang/StringUTF16", name := "hashCode", desc := "([B)I" } : Jvm.MethodName) prog_34_method_39_code (1 : Nat) (Option.some Jvm.ClassFile.FieldType.int)) ∈ lw_all := lw_g (lw_at lw_m3 205 rfl) rfl
theorem q801 : (Jvm.Cond.methodLink "java/lang/StringUTF16" (220 : Nat) ({ cls := "jdk/internal/util/ArraysSupport", name := "vectorizedHashCode", desc := "(Ljava/lang/Object;IIII)I" } : Jvm.MethodName)) ∈ lw_all := lw_g (lw_at lw_m3 206 rfl) rfl
theorem q1261 : (Jvm.Cond.static ({ cls := "java/lang/StringUTF16", name := "putCharSB", desc := "([BII)V" } : Jvm.MethodName)) ∈ lw_all := lw_g (lw_at lw_m5 186 rfl) rfl
theorem q1262 : (Jvm.Cond.code ({ cls := "java/lang/StringUTF16", name := "putCharSB", desc := "([BII)V" } : Jvm.MethodName) prog_34_method_71_code (3 : Nat) (Option.none : Option Jvm.ClassFile.FieldType)) ∈ lw_all := lw_g (lw_at lw_m5 187 rfl) rfl
theorem q1333 : (Jvm.Cond.static ({ cls := "java/lang/StringUTF16", name := "fillNull", desc := "([BII)V" } : Jvm.MethodName)) ∈ lw_all := lw_g (lw_at lw_m6 18 rfl) rfl
theorem q1334 : (Jvm.Cond.code ({ cls := "java/lang/StringUTF16", name := "fillNull", desc := "([BII)V" } : Jvm.MethodName) prog_34_method_70_code (3 : Nat) (Option.none : Option Jvm.ClassFile.FieldType)) ∈ lw_all := lw_g (lw_at lw_m6 19 rfl) rfl
theorem q1335 : (Jvm.Cond.methodLink "java/lang/StringUTF16" (380 : Nat) ({ cls := "java/util/Arrays", name := "fill", desc := "([BIIB)V" } : Jvm.MethodName)) ∈ lw_all := lw_g (lw_at lw_m6 20 rfl) rfl

/-! java/util/AbstractList -/
set_option maxRecDepth 100000
def RJ6 : String := "java/util/AbstractList"
abbrev cJ6_init : ByteArray := prog_41_method_1_code
def yJ6_init : MethodName := ⟨RJ6, "<init>", "()V"⟩
def dkwJ6_init_0 : List UInt8 := [42, 183, 0, 1, 42, 3, 181, 0, 7, 177]
abbrev dktJ6_init_0 : List UInt8 := dkwJ6_init_0 ++ []
theorem dksJ6_init_0 : cJ6_init.data.toList.drop 0 = dktJ6_init_0 := by decide +kernel
theorem dJ6_init_0 : decode cJ6_init 0 = .ok (.aload_n 0, 1) := dk_42 (dk_at dksJ6_init_0 0 rfl rfl)
theorem dJ6_init_1 : decode cJ6_init 1 = .ok (.invokespecial 1, 3) := dk_183 0 1 (dk_at dksJ6_init_0 1 rfl rfl)
theorem dJ6_init_4 : decode cJ6_init 4 = .ok (.aload_n 0, 1) := dk_42 (dk_at dksJ6_init_0 4 rfl rfl)
theorem dJ6_init_5 : decode cJ6_init 5 = .ok (.iconst 0, 1) := dk_3 (dk_at dksJ6_init_0 5 rfl rfl)
theorem dJ6_init_6 : decode cJ6_init 6 = .ok (.putfield 7, 3) := dk_181 0 7 (dk_at dksJ6_init_0 6 rfl rfl)
theorem dJ6_init_9 : decode cJ6_init 9 = .ok (.return_, 1) := dk_177 (dk_at dksJ6_init_0 9 rfl rfl)
theorem q127 : (Jvm.Cond.initialized "java/util/AbstractList") ∈ lw_all := lw_g (lw_at lw_m1 12 rfl) rfl
theorem q241 : (Jvm.Cond.instanceMethod ({ cls := "java/util/AbstractList", name := "<init>", desc := "()V" } : Jvm.MethodName)) ∈ lw_all := lw_g (lw_at lw_m1 126 rfl) rfl
theorem q242 : (Jvm.Cond.code ({ cls := "java/util/AbstractList", name := "<init>", desc := "()V" } : Jvm.MethodName) prog_41_method_1_code (1 : Nat) (Option.none : Option Jvm.ClassFile.FieldType)) ∈ lw_all := lw_g (lw_at lw_m1 127 rfl) rfl
theorem q243 : (Jvm.Cond.methodLink "java/util/AbstractList" (1 : Nat) ({ cls := "java/util/AbstractCollection", name := "<init>", desc := "()V" } : Jvm.MethodName)) ∈ lw_all := lw_g (lw_at lw_m1 128 rfl) rfl
theorem q250 : (Jvm.Cond.fieldLink "java/util/AbstractList" (7 : Nat) "java/util/AbstractList" "modCount" "I") ∈ lw_all := lw_g (lw_at lw_m1 135 rfl) rfl
theorem q259 : (Jvm.Cond.soleField "java/util/AbstractList" "modCount") ∈ lw_all := lw_g (lw_at lw_m1 144 rfl) rfl

/-! java/util/ArrayList -/
set_option maxRecDepth 100000
def RJ7 : String := "java/util/ArrayList"
def TJ7 : u_T := fun k => match k with
  | 0 => ("java/util/AbstractList", "modCount", "I", false)
  | 1 => ("java/util/ArrayList", "elementData", "[Ljava/lang/Object;", false)
  | _ => ("java/util/ArrayList", "size", "I", false)
def tyJ7 : Nat → FieldType := fun k => match k with
  | 0 => .int
  | 1 => .array (.object "java/lang/Object")
  | _ => .int
abbrev wsJ70 : List Cond := u_ws RJ7 TJ7 3
theorem nmJ7 : ∀ a, a < 3 → ∀ b, b < 3 → a ≠ b → (TJ7 a).2.1 ≠ (TJ7 b).2.1 := by decide +kernel
theorem tyJ7_ok : ∀ k, k < 3 → parseFieldDescriptor (TJ7 k).2.2.1 = some (tyJ7 k) := by decide +kernel
abbrev cJ7_init : ByteArray := prog_43_method_2_code
def yJ7_init : MethodName := ⟨RJ7, "<init>", "()V"⟩
def dkwJ7_init_0 : List UInt8 := [42, 183, 0, 1, 42, 178, 0, 39, 181, 0, 9, 177]
abbrev dktJ7_init_0 : List UInt8 := dkwJ7_init_0 ++ []
theorem dksJ7_init_0 : cJ7_init.data.toList.drop 0 = dktJ7_init_0 := by decide +kernel
theorem dJ7_init_0 : decode cJ7_init 0 = .ok (.aload_n 0, 1) := dk_42 (dk_at dksJ7_init_0 0 rfl rfl)
theorem dJ7_init_1 : decode cJ7_init 1 = .ok (.invokespecial 1, 3) := dk_183 0 1 (dk_at dksJ7_init_0 1 rfl rfl)
theorem dJ7_init_4 : decode cJ7_init 4 = .ok (.aload_n 0, 1) := dk_42 (dk_at dksJ7_init_0 4 rfl rfl)
theorem dJ7_init_5 : decode cJ7_init 5 = .ok (.getstatic 39, 3) := dk_178 0 39 (dk_at dksJ7_init_0 5 rfl rfl)
theorem dJ7_init_8 : decode cJ7_init 8 = .ok (.putfield 9, 3) := dk_181 0 9 (dk_at dksJ7_init_0 8 rfl rfl)
theorem dJ7_init_11 : decode cJ7_init 11 = .ok (.return_, 1) := dk_177 (dk_at dksJ7_init_0 11 rfl rfl)
abbrev cJ7_size : ByteArray := prog_43_method_8_code
def yJ7_size : MethodName := ⟨RJ7, "size", "()I"⟩
theorem dJ7_size_0 : decode cJ7_size 0 = .ok (.aload_n 0, 1) := by decide +kernel
theorem dJ7_size_1 : decode cJ7_size 1 = .ok (.getfield 48, 3) := by decide +kernel
theorem dJ7_size_4 : decode cJ7_size 4 = .ok (.ireturn, 1) := by decide +kernel
abbrev cJ7_add : ByteArray := prog_43_method_25_code
def yJ7_add : MethodName := ⟨RJ7, "add", "(Ljava/lang/Object;)Z"⟩
def dkwJ7_add_1 : List UInt8 := [172]
abbrev dktJ7_add_1 : List UInt8 := dkwJ7_add_1 ++ []
def dkwJ7_add_0 : List UInt8 := [42, 89, 180, 0, 63, 4, 96, 181, 0, 63, 42, 43, 42, 180, 0, 9, 42, 180, 0, 48, 182, 0, 131, 4]
abbrev dktJ7_add_0 : List UInt8 := dkwJ7_add_0 ++ dktJ7_add_1
theorem dksJ7_add_0 : cJ7_add.data.toList.drop 0 = dktJ7_add_0 := by decide +kernel
theorem dksJ7_add_1 : cJ7_add.data.toList.drop 24 = dktJ7_add_1 := dk_seg dksJ7_add_0 24 rfl rfl
theorem dJ7_add_0 : decode cJ7_add 0 = .ok (.aload_n 0, 1) := dk_42 (dk_at dksJ7_add_0 0 rfl rfl)
theorem dJ7_add_1 : decode cJ7_add 1 = .ok (.dup, 1) := dk_89 (dk_at dksJ7_add_0 1 rfl rfl)
theorem dJ7_add_2 : decode cJ7_add 2 = .ok (.getfield 63, 3) := dk_180 0 63 (dk_at dksJ7_add_0 2 rfl rfl)
theorem dJ7_add_5 : decode cJ7_add 5 = .ok (.iconst 1, 1) := dk_4 (dk_at dksJ7_add_0 5 rfl rfl)
theorem dJ7_add_6 : decode cJ7_add 6 = .ok (.iadd, 1) := dk_96 (dk_at dksJ7_add_0 6 rfl rfl)
theorem dJ7_add_7 : decode cJ7_add 7 = .ok (.putfield 63, 3) := dk_181 0 63 (dk_at dksJ7_add_0 7 rfl rfl)
theorem dJ7_add_10 : decode cJ7_add 10 = .ok (.aload_n 0, 1) := dk_42 (dk_at dksJ7_add_0 10 rfl rfl)
theorem dJ7_add_11 : decode cJ7_add 11 = .ok (.aload_n 1, 1) := dk_43 (dk_at dksJ7_add_0 11 rfl rfl)
theorem dJ7_add_12 : decode cJ7_add 12 = .ok (.aload_n 0, 1) := dk_42 (dk_at dksJ7_add_0 12 rfl rfl)
theorem dJ7_add_13 : decode cJ7_add 13 = .ok (.getfield 9, 3) := dk_180 0 9 (dk_at dksJ7_add_0 13 rfl rfl)
theorem dJ7_add_16 : decode cJ7_add 16 = .ok (.aload_n 0, 1) := dk_42 (dk_at dksJ7_add_0 16 rfl rfl)
theorem dJ7_add_17 : decode cJ7_add 17 = .ok (.getfield 48, 3) := dk_180 0 48 (dk_at dksJ7_add_0 17 rfl rfl)
theorem dJ7_add_20 : decode cJ7_add 20 = .ok (.invokevirtual 131, 3) := dk_182 0 131 (dk_at dksJ7_add_0 20 rfl rfl)
theorem dJ7_add_23 : decode cJ7_add 23 = .ok (.iconst 1, 1) := dk_4 (dk_at dksJ7_add_0 23 rfl rfl)
theorem dJ7_add_24 : decode cJ7_add 24 = .ok (.ireturn, 1) := dk_172 (dk_at dksJ7_add_1 0 rfl rfl)
abbrev cJ7_add_2 : ByteArray := prog_43_method_24_code
def yJ7_add_2 : MethodName := ⟨RJ7, "add", "(Ljava/lang/Object;[Ljava/lang/Object;I)V"⟩
def dkwJ7_add_2_0 : List UInt8 := [29, 44, 190, 160, 0, 8, 42, 182, 0, 129, 77, 44, 29, 43, 83, 42, 29, 4, 96, 181, 0, 48, 177]
abbrev dktJ7_add_2_0 : List UInt8 := dkwJ7_add_2_0 ++ []
theorem dksJ7_add_2_0 : cJ7_add_2.data.toList.drop 0 = dktJ7_add_2_0 := by decide +kernel
theorem dJ7_add_2_0 : decode cJ7_add_2 0 = .ok (.iload_n 3, 1) := dk_29 (dk_at dksJ7_add_2_0 0 rfl rfl)
theorem dJ7_add_2_1 : decode cJ7_add_2 1 = .ok (.aload_n 2, 1) := dk_44 (dk_at dksJ7_add_2_0 1 rfl rfl)
theorem dJ7_add_2_2 : decode cJ7_add_2 2 = .ok (.arraylength, 1) := dk_190 (dk_at dksJ7_add_2_0 2 rfl rfl)
theorem dJ7_add_2_3 : decode cJ7_add_2 3 = .ok (.if_icmp .ne 8, 3) := dk_160 0 8 (dk_at dksJ7_add_2_0 3 rfl rfl)
theorem dJ7_add_2_6 : decode cJ7_add_2 6 = .ok (.aload_n 0, 1) := dk_42 (dk_at dksJ7_add_2_0 6 rfl rfl)
theorem dJ7_add_2_7 : decode cJ7_add_2 7 = .ok (.invokevirtual 129, 3) := dk_182 0 129 (dk_at dksJ7_add_2_0 7 rfl rfl)
theorem dJ7_add_2_10 : decode cJ7_add_2 10 = .ok (.astore_n 2, 1) := dk_77 (dk_at dksJ7_add_2_0 10 rfl rfl)
theorem dJ7_add_2_11 : decode cJ7_add_2 11 = .ok (.aload_n 2, 1) := dk_44 (dk_at dksJ7_add_2_0 11 rfl rfl)
theorem dJ7_add_2_12 : decode cJ7_add_2 12 = .ok (.iload_n 3, 1) := dk_29 (dk_at dksJ7_add_2_0 12 rfl rfl)
theorem dJ7_add_2_13 : decode cJ7_add_2 13 = .ok (.aload_n 1, 1) := dk_43 (dk_at dksJ7_add_2_0 13 rfl rfl)
theorem dJ7_add_2_14 : decode cJ7_add_2 14 = .ok (.aastore, 1) := dk_83 (dk_at dksJ7_add_2_0 14 rfl rfl)
theorem dJ7_add_2_15 : decode cJ7_add_2 15 = .ok (.aload_n 0, 1) := dk_42 (dk_at dksJ7_add_2_0 15 rfl rfl)
theorem dJ7_add_2_16 : decode cJ7_add_2 16 = .ok (.iload_n 3, 1) := dk_29 (dk_at dksJ7_add_2_0 16 rfl rfl)
theorem dJ7_add_2_17 : decode cJ7_add_2 17 = .ok (.iconst 1, 1) := dk_4 (dk_at dksJ7_add_2_0 17 rfl rfl)
theorem dJ7_add_2_18 : decode cJ7_add_2 18 = .ok (.iadd, 1) := dk_96 (dk_at dksJ7_add_2_0 18 rfl rfl)
theorem dJ7_add_2_19 : decode cJ7_add_2 19 = .ok (.putfield 48, 3) := dk_181 0 48 (dk_at dksJ7_add_2_0 19 rfl rfl)
theorem dJ7_add_2_22 : decode cJ7_add_2 22 = .ok (.return_, 1) := dk_177 (dk_at dksJ7_add_2_0 22 rfl rfl)
abbrev cJ7_grow : ByteArray := prog_43_method_7_code
def yJ7_grow : MethodName := ⟨RJ7, "grow", "()[Ljava/lang/Object;"⟩
def dkwJ7_grow_0 : List UInt8 := [42, 42, 180, 0, 48, 4, 96, 182, 0, 69, 176]
abbrev dktJ7_grow_0 : List UInt8 := dkwJ7_grow_0 ++ []
theorem dksJ7_grow_0 : cJ7_grow.data.toList.drop 0 = dktJ7_grow_0 := by decide +kernel
theorem dJ7_grow_0 : decode cJ7_grow 0 = .ok (.aload_n 0, 1) := dk_42 (dk_at dksJ7_grow_0 0 rfl rfl)
theorem dJ7_grow_1 : decode cJ7_grow 1 = .ok (.aload_n 0, 1) := dk_42 (dk_at dksJ7_grow_0 1 rfl rfl)
theorem dJ7_grow_2 : decode cJ7_grow 2 = .ok (.getfield 48, 3) := dk_180 0 48 (dk_at dksJ7_grow_0 2 rfl rfl)
theorem dJ7_grow_5 : decode cJ7_grow 5 = .ok (.iconst 1, 1) := dk_4 (dk_at dksJ7_grow_0 5 rfl rfl)
theorem dJ7_grow_6 : decode cJ7_grow 6 = .ok (.iadd, 1) := dk_96 (dk_at dksJ7_grow_0 6 rfl rfl)
theorem dJ7_grow_7 : decode cJ7_grow 7 = .ok (.invokevirtual 69, 3) := dk_182 0 69 (dk_at dksJ7_grow_0 7 rfl rfl)
theorem dJ7_grow_10 : decode cJ7_grow 10 = .ok (.areturn, 1) := dk_176 (dk_at dksJ7_grow_0 10 rfl rfl)
abbrev cJ7_grow_2 : ByteArray := prog_43_method_6_code
def yJ7_grow_2 : MethodName := ⟨RJ7, "grow", "(I)[Ljava/lang/Object;"⟩
def dkwJ7_grow_2_2 : List UInt8 := [27, 184, 0, 79, 189, 0, 7, 90, 181, 0, 9, 176]
abbrev dktJ7_grow_2_2 : List UInt8 := dkwJ7_grow_2_2 ++ []
def dkwJ7_grow_2_1 : List UInt8 := [28, 4, 122, 184, 0, 73, 62, 42, 42, 180, 0, 9, 29, 184, 0, 66, 90, 181, 0, 9, 176, 42, 16, 10]
abbrev dktJ7_grow_2_1 : List UInt8 := dkwJ7_grow_2_1 ++ dktJ7_grow_2_2
def dkwJ7_grow_2_0 : List UInt8 := [42, 180, 0, 9, 190, 61, 28, 157, 0, 13, 42, 180, 0, 9, 178, 0, 39, 165, 0, 28, 28, 27, 28, 100]
abbrev dktJ7_grow_2_0 : List UInt8 := dkwJ7_grow_2_0 ++ dktJ7_grow_2_1
theorem dksJ7_grow_2_0 : cJ7_grow_2.data.toList.drop 0 = dktJ7_grow_2_0 := by decide +kernel
theorem dksJ7_grow_2_1 : cJ7_grow_2.data.toList.drop 24 = dktJ7_grow_2_1 := dk_seg dksJ7_grow_2_0 24 rfl rfl
theorem dksJ7_grow_2_2 : cJ7_grow_2.data.toList.drop 48 = dktJ7_grow_2_2 := dk_seg dksJ7_grow_2_1 24 rfl rfl
theorem dJ7_grow_2_0 : decode cJ7_grow_2 0 = .ok (.aload_n 0, 1) := dk_42 (dk_at dksJ7_grow_2_0 0 rfl rfl)
theorem dJ7_grow_2_1 : decode cJ7_grow_2 1 = .ok (.getfield 9, 3) := dk_180 0 9 (dk_at dksJ7_grow_2_0 1 rfl rfl)
theorem dJ7_grow_2_4 : decode cJ7_grow_2 4 = .ok (.arraylength, 1) := dk_190 (dk_at dksJ7_grow_2_0 4 rfl rfl)
theorem dJ7_grow_2_5 : decode cJ7_grow_2 5 = .ok (.istore_n 2, 1) := dk_61 (dk_at dksJ7_grow_2_0 5 rfl rfl)
theorem dJ7_grow_2_6 : decode cJ7_grow_2 6 = .ok (.iload_n 2, 1) := dk_28 (dk_at dksJ7_grow_2_0 6 rfl rfl)
theorem dJ7_grow_2_7 : decode cJ7_grow_2 7 = .ok (.ifCond .gt 13, 3) := dk_157 0 13 (dk_at dksJ7_grow_2_0 7 rfl rfl)
theorem dJ7_grow_2_10 : decode cJ7_grow_2 10 = .ok (.aload_n 0, 1) := dk_42 (dk_at dksJ7_grow_2_0 10 rfl rfl)
theorem dJ7_grow_2_11 : decode cJ7_grow_2 11 = .ok (.getfield 9, 3) := dk_180 0 9 (dk_at dksJ7_grow_2_0 11 rfl rfl)
theorem dJ7_grow_2_14 : decode cJ7_grow_2 14 = .ok (.getstatic 39, 3) := dk_178 0 39 (dk_at dksJ7_grow_2_0 14 rfl rfl)
theorem dJ7_grow_2_17 : decode cJ7_grow_2 17 = .ok (.if_acmp .eq 28, 3) := dk_165 0 28 (dk_at dksJ7_grow_2_0 17 rfl rfl)
theorem dJ7_grow_2_20 : decode cJ7_grow_2 20 = .ok (.iload_n 2, 1) := dk_28 (dk_at dksJ7_grow_2_0 20 rfl rfl)
theorem dJ7_grow_2_21 : decode cJ7_grow_2 21 = .ok (.iload_n 1, 1) := dk_27 (dk_at dksJ7_grow_2_0 21 rfl rfl)
theorem dJ7_grow_2_22 : decode cJ7_grow_2 22 = .ok (.iload_n 2, 1) := dk_28 (dk_at dksJ7_grow_2_0 22 rfl rfl)
theorem dJ7_grow_2_23 : decode cJ7_grow_2 23 = .ok (.isub, 1) := dk_100 (dk_at dksJ7_grow_2_0 23 rfl rfl)
theorem dJ7_grow_2_24 : decode cJ7_grow_2 24 = .ok (.iload_n 2, 1) := dk_28 (dk_at dksJ7_grow_2_1 0 rfl rfl)
theorem dJ7_grow_2_25 : decode cJ7_grow_2 25 = .ok (.iconst 1, 1) := dk_4 (dk_at dksJ7_grow_2_1 1 rfl rfl)
theorem dJ7_grow_2_26 : decode cJ7_grow_2 26 = .ok (.ishr, 1) := dk_122 (dk_at dksJ7_grow_2_1 2 rfl rfl)
theorem dJ7_grow_2_27 : decode cJ7_grow_2 27 = .ok (.invokestatic 73, 3) := dk_184 0 73 (dk_at dksJ7_grow_2_1 3 rfl rfl)
theorem dJ7_grow_2_30 : decode cJ7_grow_2 30 = .ok (.istore_n 3, 1) := dk_62 (dk_at dksJ7_grow_2_1 6 rfl rfl)
theorem dJ7_grow_2_31 : decode cJ7_grow_2 31 = .ok (.aload_n 0, 1) := dk_42 (dk_at dksJ7_grow_2_1 7 rfl rfl)
theorem dJ7_grow_2_32 : decode cJ7_grow_2 32 = .ok (.aload_n 0, 1) := dk_42 (dk_at dksJ7_grow_2_1 8 rfl rfl)
theorem dJ7_grow_2_33 : decode cJ7_grow_2 33 = .ok (.getfield 9, 3) := dk_180 0 9 (dk_at dksJ7_grow_2_1 9 rfl rfl)
theorem dJ7_grow_2_36 : decode cJ7_grow_2 36 = .ok (.iload_n 3, 1) := dk_29 (dk_at dksJ7_grow_2_1 12 rfl rfl)
theorem dJ7_grow_2_37 : decode cJ7_grow_2 37 = .ok (.invokestatic 66, 3) := dk_184 0 66 (dk_at dksJ7_grow_2_1 13 rfl rfl)
theorem dJ7_grow_2_40 : decode cJ7_grow_2 40 = .ok (.dup_x1, 1) := dk_90 (dk_at dksJ7_grow_2_1 16 rfl rfl)
theorem dJ7_grow_2_41 : decode cJ7_grow_2 41 = .ok (.putfield 9, 3) := dk_181 0 9 (dk_at dksJ7_grow_2_1 17 rfl rfl)
theorem dJ7_grow_2_44 : decode cJ7_grow_2 44 = .ok (.areturn, 1) := dk_176 (dk_at dksJ7_grow_2_1 20 rfl rfl)
theorem dJ7_grow_2_45 : decode cJ7_grow_2 45 = .ok (.aload_n 0, 1) := dk_42 (dk_at dksJ7_grow_2_1 21 rfl rfl)
theorem dJ7_grow_2_46 : decode cJ7_grow_2 46 = .ok (.bipush 10, 2) := dk_16 10 (dk_at dksJ7_grow_2_1 22 rfl rfl)
theorem dJ7_grow_2_48 : decode cJ7_grow_2 48 = .ok (.iload_n 1, 1) := dk_27 (dk_at dksJ7_grow_2_2 0 rfl rfl)
theorem dJ7_grow_2_49 : decode cJ7_grow_2 49 = .ok (.invokestatic 79, 3) := dk_184 0 79 (dk_at dksJ7_grow_2_2 1 rfl rfl)
theorem dJ7_grow_2_52 : decode cJ7_grow_2 52 = .ok (.anewarray 7, 3) := dk_189 0 7 (dk_at dksJ7_grow_2_2 4 rfl rfl)
theorem dJ7_grow_2_55 : decode cJ7_grow_2 55 = .ok (.dup_x1, 1) := dk_90 (dk_at dksJ7_grow_2_2 7 rfl rfl)
theorem dJ7_grow_2_56 : decode cJ7_grow_2 56 = .ok (.putfield 9, 3) := dk_181 0 9 (dk_at dksJ7_grow_2_2 8 rfl rfl)
theorem dJ7_grow_2_59 : decode cJ7_grow_2 59 = .ok (.areturn, 1) := dk_176 (dk_at dksJ7_grow_2_2 11 rfl rfl)
abbrev cJ7_get : ByteArray := prog_43_method_20_code
def yJ7_get : MethodName := ⟨RJ7, "get", "(I)Ljava/lang/Object;"⟩
def dkwJ7_get_0 : List UInt8 := [27, 42, 180, 0, 48, 184, 0, 118, 87, 42, 27, 182, 0, 123, 176]
abbrev dktJ7_get_0 : List UInt8 := dkwJ7_get_0 ++ []
theorem dksJ7_get_0 : cJ7_get.data.toList.drop 0 = dktJ7_get_0 := by decide +kernel
theorem dJ7_get_0 : decode cJ7_get 0 = .ok (.iload_n 1, 1) := dk_27 (dk_at dksJ7_get_0 0 rfl rfl)
theorem dJ7_get_1 : decode cJ7_get 1 = .ok (.aload_n 0, 1) := dk_42 (dk_at dksJ7_get_0 1 rfl rfl)
theorem dJ7_get_2 : decode cJ7_get 2 = .ok (.getfield 48, 3) := dk_180 0 48 (dk_at dksJ7_get_0 2 rfl rfl)
theorem dJ7_get_5 : decode cJ7_get 5 = .ok (.invokestatic 118, 3) := dk_184 0 118 (dk_at dksJ7_get_0 5 rfl rfl)
theorem dJ7_get_8 : decode cJ7_get 8 = .ok (.pop, 1) := dk_87 (dk_at dksJ7_get_0 8 rfl rfl)
theorem dJ7_get_9 : decode cJ7_get 9 = .ok (.aload_n 0, 1) := dk_42 (dk_at dksJ7_get_0 9 rfl rfl)
theorem dJ7_get_10 : decode cJ7_get 10 = .ok (.iload_n 1, 1) := dk_27 (dk_at dksJ7_get_0 10 rfl rfl)
theorem dJ7_get_11 : decode cJ7_get 11 = .ok (.invokevirtual 123, 3) := dk_182 0 123 (dk_at dksJ7_get_0 11 rfl rfl)
theorem dJ7_get_14 : decode cJ7_get 14 = .ok (.areturn, 1) := dk_176 (dk_at dksJ7_get_0 14 rfl rfl)
abbrev cJ7_elementData : ByteArray := prog_43_method_18_code
def yJ7_elementData : MethodName := ⟨RJ7, "elementData", "(I)Ljava/lang/Object;"⟩
def dkwJ7_elementData_0 : List UInt8 := [42, 180, 0, 9, 27, 50, 176]
abbrev dktJ7_elementData_0 : List UInt8 := dkwJ7_elementData_0 ++ []
theorem dksJ7_elementData_0 : cJ7_elementData.data.toList.drop 0 = dktJ7_elementData_0 := by decide +kernel
theorem dJ7_elementData_0 : decode cJ7_elementData 0 = .ok (.aload_n 0, 1) := dk_42 (dk_at dksJ7_elementData_0 0 rfl rfl)
theorem dJ7_elementData_1 : decode cJ7_elementData 1 = .ok (.getfield 9, 3) := dk_180 0 9 (dk_at dksJ7_elementData_0 1 rfl rfl)
theorem dJ7_elementData_4 : decode cJ7_elementData 4 = .ok (.iload_n 1, 1) := dk_27 (dk_at dksJ7_elementData_0 4 rfl rfl)
theorem dJ7_elementData_5 : decode cJ7_elementData 5 = .ok (.aaload, 1) := dk_50 (dk_at dksJ7_elementData_0 5 rfl rfl)
theorem dJ7_elementData_6 : decode cJ7_elementData 6 = .ok (.areturn, 1) := dk_176 (dk_at dksJ7_elementData_0 6 rfl rfl)
abbrev cJ7_isEmpty : ByteArray := prog_43_method_9_code
def yJ7_isEmpty : MethodName := ⟨RJ7, "isEmpty", "()Z"⟩
def dkwJ7_isEmpty_0 : List UInt8 := [42, 180, 0, 48, 154, 0, 7, 4, 167, 0, 4, 3, 172]
abbrev dktJ7_isEmpty_0 : List UInt8 := dkwJ7_isEmpty_0 ++ []
theorem dksJ7_isEmpty_0 : cJ7_isEmpty.data.toList.drop 0 = dktJ7_isEmpty_0 := by decide +kernel
theorem dJ7_isEmpty_0 : decode cJ7_isEmpty 0 = .ok (.aload_n 0, 1) := dk_42 (dk_at dksJ7_isEmpty_0 0 rfl rfl)
theorem dJ7_isEmpty_1 : decode cJ7_isEmpty 1 = .ok (.getfield 48, 3) := dk_180 0 48 (dk_at dksJ7_isEmpty_0 1 rfl rfl)
theorem dJ7_isEmpty_4 : decode cJ7_isEmpty 4 = .ok (.ifCond .ne 7, 3) := dk_154 0 7 (dk_at dksJ7_isEmpty_0 4 rfl rfl)
theorem dJ7_isEmpty_7 : decode cJ7_isEmpty 7 = .ok (.iconst 1, 1) := dk_4 (dk_at dksJ7_isEmpty_0 7 rfl rfl)
theorem dJ7_isEmpty_8 : decode cJ7_isEmpty 8 = .ok (.goto 4, 3) := dk_167 0 4 (dk_at dksJ7_isEmpty_0 8 rfl rfl)
theorem dJ7_isEmpty_11 : decode cJ7_isEmpty 11 = .ok (.iconst 0, 1) := dk_3 (dk_at dksJ7_isEmpty_0 11 rfl rfl)
theorem dJ7_isEmpty_12 : decode cJ7_isEmpty 12 = .ok (.ireturn, 1) := dk_172 (dk_at dksJ7_isEmpty_0 12 rfl rfl)
abbrev cJ7_iterator : ByteArray := prog_43_method_55_code
def yJ7_iterator : MethodName := ⟨RJ7, "iterator", "()Ljava/util/Iterator;"⟩
def dkwJ7_iterator_0 : List UInt8 := [187, 1, 11, 89, 42, 183, 1, 13, 176]
abbrev dktJ7_iterator_0 : List UInt8 := dkwJ7_iterator_0 ++ []
theorem dksJ7_iterator_0 : cJ7_iterator.data.toList.drop 0 = dktJ7_iterator_0 := by decide +kernel
theorem dJ7_iterator_0 : decode cJ7_iterator 0 = .ok (.new 267, 3) := dk_187 1 11 (dk_at dksJ7_iterator_0 0 rfl rfl)
theorem dJ7_iterator_3 : decode cJ7_iterator 3 = .ok (.dup, 1) := dk_89 (dk_at dksJ7_iterator_0 3 rfl rfl)
theorem dJ7_iterator_4 : decode cJ7_iterator 4 = .ok (.aload_n 0, 1) := dk_42 (dk_at dksJ7_iterator_0 4 rfl rfl)
theorem dJ7_iterator_5 : decode cJ7_iterator 5 = .ok (.invokespecial 269, 3) := dk_183 1 13 (dk_at dksJ7_iterator_0 5 rfl rfl)
theorem dJ7_iterator_8 : decode cJ7_iterator 8 = .ok (.areturn, 1) := dk_176 (dk_at dksJ7_iterator_0 8 rfl rfl)
theorem q128 : (Jvm.Cond.initialized "java/util/ArrayList") ∈ lw_all := lw_g (lw_at lw_m1 13 rfl) rfl
theorem q236 : (Jvm.Cond.instantiable "java/util/ArrayList" (3 : Nat)) ∈ lw_all := lw_g (lw_at lw_m1 121 rfl) rfl
theorem q238 : (Jvm.Cond.instanceMethod ({ cls := "java/util/ArrayList", name := "<init>", desc := "()V" } : Jvm.MethodName)) ∈ lw_all := lw_g (lw_at lw_m1 123 rfl) rfl
theorem q239 : (Jvm.Cond.code ({ cls := "java/util/ArrayList", name := "<init>", desc := "()V" } : Jvm.MethodName) prog_43_method_2_code (1 : Nat) (Option.none : Option Jvm.ClassFile.FieldType)) ∈ lw_all := lw_g (lw_at lw_m1 124 rfl) rfl
theorem q240 : (Jvm.Cond.methodLink "java/util/ArrayList" (1 : Nat) ({ cls := "java/util/AbstractList", name := "<init>", desc := "()V" } : Jvm.MethodName)) ∈ lw_all := lw_g (lw_at lw_m1 125 rfl) rfl
theorem q244 : (Jvm.Cond.fieldLink "java/util/ArrayList" (39 : Nat) "java/util/ArrayList" "DEFAULTCAPACITY_EMPTY_ELEMENTDATA" "[Ljava/lang/Object;") ∈ lw_all := lw_g (lw_at lw_m1 129 rfl) rfl
theorem q245 : (Jvm.Cond.laysStatic "java/util/ArrayList" "DEFAULTCAPACITY_EMPTY_ELEMENTDATA" "[Ljava/lang/Object;") ∈ lw_tbl := lw_at lw_m1 130 rfl
theorem q246 : (Jvm.Cond.fieldLink "java/util/ArrayList" (9 : Nat) "java/util/ArrayList" "elementData" "[Ljava/lang/Object;") ∈ lw_all := lw_g (lw_at lw_m1 131 rfl) rfl
theorem q249 : (Jvm.Cond.fieldLink "java/util/ArrayList" (48 : Nat) "java/util/ArrayList" "size" "I") ∈ lw_all := lw_g (lw_at lw_m1 134 rfl) rfl
theorem q252 : (Jvm.Cond.sameField "java/util/ArrayList" "java/util/AbstractList" "modCount" "I") ∈ lw_all := lw_g (lw_at lw_m1 137 rfl) rfl
theorem q253 : (Jvm.Cond.fieldLink "java/util/ArrayList" (63 : Nat) "java/util/ArrayList" "modCount" "I") ∈ lw_all := lw_g (lw_at lw_m1 138 rfl) rfl
theorem q254 : (Jvm.Cond.lays "java/util/ArrayList" "java/util/ArrayList" "elementData" "[Ljava/lang/Object;") ∈ lw_all := lw_g (lw_at lw_m1 139 rfl) rfl
theorem q255 : (Jvm.Cond.soleField "java/util/ArrayList" "elementData") ∈ lw_all := lw_g (lw_at lw_m1 140 rfl) rfl
theorem q256 : (Jvm.Cond.lays "java/util/ArrayList" "java/util/ArrayList" "size" "I") ∈ lw_all := lw_g (lw_at lw_m1 141 rfl) rfl
theorem q257 : (Jvm.Cond.soleField "java/util/ArrayList" "size") ∈ lw_all := lw_g (lw_at lw_m1 142 rfl) rfl
theorem q258 : (Jvm.Cond.lays "java/util/ArrayList" "java/util/AbstractList" "modCount" "I") ∈ lw_all := lw_g (lw_at lw_m1 143 rfl) rfl
theorem q260 : (Jvm.Cond.superclass "java/util/ArrayList" "java/util/AbstractList") ∈ lw_all := lw_g (lw_at lw_m1 145 rfl) rfl
theorem q822 : (Jvm.Cond.castable "java/util/ArrayList" "java/util/List") ∈ lw_tbl := lw_at lw_m3 227 rfl
theorem q823 : (Jvm.Cond.selects "java/util/ArrayList" ({ cls := "java/util/List", name := "size", desc := "()I" } : Jvm.MethodName) ({ cls := "java/util/ArrayList", name := "size", desc := "()I" } : Jvm.MethodName)) ∈ lw_all := lw_g (lw_at lw_m3 228 rfl) rfl
theorem q824 : (Jvm.Cond.unhidden "java/util/ArrayList" "size" "()I") ∈ lw_tbl := lw_at lw_m3 229 rfl
theorem q825 : (Jvm.Cond.instanceMethod ({ cls := "java/util/ArrayList", name := "size", desc := "()I" } : Jvm.MethodName)) ∈ lw_all := lw_g (lw_at lw_m3 230 rfl) rfl
theorem q826 : (Jvm.Cond.publicMethod ({ cls := "java/util/ArrayList", name := "size", desc := "()I" } : Jvm.MethodName)) ∈ lw_tbl := lw_at lw_m3 231 rfl
theorem q827 : (Jvm.Cond.code ({ cls := "java/util/ArrayList", name := "size", desc := "()I" } : Jvm.MethodName) prog_43_method_8_code (1 : Nat) (Option.some Jvm.ClassFile.FieldType.int)) ∈ lw_all := lw_g (lw_at lw_m3 232 rfl) rfl
theorem q850 : (Jvm.Cond.selects "java/util/ArrayList" ({ cls := "java/util/List", name := "add", desc := "(Ljava/lang/Object;)Z" } : Jvm.MethodName) ({ cls := "java/util/ArrayList", name := "add", desc := "(Ljava/lang/Object;)Z" } : Jvm.MethodName)) ∈ lw_all := lw_g (lw_at lw_m4 15 rfl) rfl
theorem q851 : (Jvm.Cond.unhidden "java/util/ArrayList" "add" "(Ljava/lang/Object;)Z") ∈ lw_tbl := lw_at lw_m4 16 rfl
theorem q852 : (Jvm.Cond.instanceMethod ({ cls := "java/util/ArrayList", name := "add", desc := "(Ljava/lang/Object;)Z" } : Jvm.MethodName)) ∈ lw_all := lw_g (lw_at lw_m4 17 rfl) rfl
theorem q853 : (Jvm.Cond.publicMethod ({ cls := "java/util/ArrayList", name := "add", desc := "(Ljava/lang/Object;)Z" } : Jvm.MethodName)) ∈ lw_tbl := lw_at lw_m4 18 rfl
theorem q854 : (Jvm.Cond.code ({ cls := "java/util/ArrayList", name := "add", desc := "(Ljava/lang/Object;)Z" } : Jvm.MethodName) prog_43_method_25_code (2 : Nat) (Option.some Jvm.ClassFile.FieldType.boolean)) ∈ lw_all := lw_g (lw_at lw_m4 19 rfl) rfl
theorem q855 : (Jvm.Cond.methodLink "java/util/ArrayList" (131 : Nat) ({ cls := "java/util/ArrayList", name := "add", desc := "(Ljava/lang/Object;[Ljava/lang/Object;I)V" } : Jvm.MethodName)) ∈ lw_all := lw_g (lw_at lw_m4 20 rfl) rfl
theorem q856 : (Jvm.Cond.privateMethod ({ cls := "java/util/ArrayList", name := "add", desc := "(Ljava/lang/Object;[Ljava/lang/Object;I)V" } : Jvm.MethodName)) ∈ lw_tbl := lw_at lw_m4 21 rfl
theorem q857 : (Jvm.Cond.instanceMethod ({ cls := "java/util/ArrayList", name := "add", desc := "(Ljava/lang/Object;[Ljava/lang/Object;I)V" } : Jvm.MethodName)) ∈ lw_all := lw_g (lw_at lw_m4 22 rfl) rfl
theorem q858 : (Jvm.Cond.code ({ cls := "java/util/ArrayList", name := "add", desc := "(Ljava/lang/Object;[Ljava/lang/Object;I)V" } : Jvm.MethodName) prog_43_method_24_code (4 : Nat) (Option.none : Option Jvm.ClassFile.FieldType)) ∈ lw_all := lw_g (lw_at lw_m4 23 rfl) rfl
theorem q859 : (Jvm.Cond.methodLink "java/util/ArrayList" (129 : Nat) ({ cls := "java/util/ArrayList", name := "grow", desc := "()[Ljava/lang/Object;" } : Jvm.MethodName)) ∈ lw_all := lw_g (lw_at lw_m4 24 rfl) rfl
theorem q860 : (Jvm.Cond.privateMethod ({ cls := "java/util/ArrayList", name := "grow", desc := "()[Ljava/lang/Object;" } : Jvm.MethodName)) ∈ lw_tbl := lw_at lw_m4 25 rfl
theorem q861 : (Jvm.Cond.instanceMethod ({ cls := "java/util/ArrayList", name := "grow", desc := "()[Ljava/lang/Object;" } : Jvm.MethodName)) ∈ lw_all := lw_g (lw_at lw_m4 26 rfl) rfl
theorem q862 : (Jvm.Cond.code ({ cls := "java/util/ArrayList", name := "grow", desc := "()[Ljava/lang/Object;" } : Jvm.MethodName) prog_43_method_7_code (1 : Nat) (Option.some (Jvm.ClassFile.FieldType.array (Jvm.ClassFile.FieldType.object "java/lang/Object")))) ∈ lw_all := lw_g (lw_at lw_m4 27 rfl) rfl
theorem q863 : (Jvm.Cond.methodLink "java/util/ArrayList" (69 : Nat) ({ cls := "java/util/ArrayList", name := "grow", desc := "(I)[Ljava/lang/Object;" } : Jvm.MethodName)) ∈ lw_all := lw_g (lw_at lw_m4 28 rfl) rfl
theorem q864 : (Jvm.Cond.privateMethod ({ cls := "java/util/ArrayList", name := "grow", desc := "(I)[Ljava/lang/Object;" } : Jvm.MethodName)) ∈ lw_tbl := lw_at lw_m4 29 rfl
theorem q865 : (Jvm.Cond.instanceMethod ({ cls := "java/util/ArrayList", name := "grow", desc := "(I)[Ljava/lang/Object;" } : Jvm.MethodName)) ∈ lw_all := lw_g (lw_at lw_m4 30 rfl) rfl
theorem q866 : (Jvm.Cond.code ({ cls := "java/util/ArrayList", name := "grow", desc := "(I)[Ljava/lang/Object;" } : Jvm.MethodName) prog_43_method_6_code (4 : Nat) (Option.some (Jvm.ClassFile.FieldType.array (Jvm.ClassFile.FieldType.object "java/lang/Object")))) ∈ lw_all := lw_g (lw_at lw_m4 31 rfl) rfl
theorem q867 : (Jvm.Cond.methodLink "java/util/ArrayList" (73 : Nat) ({ cls := "jdk/internal/util/ArraysSupport", name := "newLength", desc := "(III)I" } : Jvm.MethodName)) ∈ lw_all := lw_g (lw_at lw_m4 32 rfl) rfl
theorem q868 : (Jvm.Cond.methodLink "java/util/ArrayList" (66 : Nat) ({ cls := "java/util/Arrays", name := "copyOf", desc := "([Ljava/lang/Object;I)[Ljava/lang/Object;" } : Jvm.MethodName)) ∈ lw_all := lw_g (lw_at lw_m4 33 rfl) rfl
theorem q893 : (Jvm.Cond.selects "java/util/ArrayList" ({ cls := "java/lang/Object", name := "getClass", desc := "()Ljava/lang/Class;" } : Jvm.MethodName) ({ cls := "java/lang/Object", name := "getClass", desc := "()Ljava/lang/Class;" } : Jvm.MethodName)) ∈ lw_all := lw_g (lw_at lw_m4 58 rfl) rfl
theorem q902 : (Jvm.Cond.methodLink "java/util/ArrayList" (79 : Nat) ({ cls := "java/lang/Math", name := "max", desc := "(II)I" } : Jvm.MethodName)) ∈ lw_all := lw_g (lw_at lw_m4 67 rfl) rfl
theorem q903 : (Jvm.Cond.classLink "java/util/ArrayList" (7 : Nat) "java/lang/Object") ∈ lw_all := lw_g (lw_at lw_m4 68 rfl) rfl
theorem q941 : (Jvm.Cond.selects "java/util/ArrayList" ({ cls := "java/util/List", name := "get", desc := "(I)Ljava/lang/Object;" } : Jvm.MethodName) ({ cls := "java/util/ArrayList", name := "get", desc := "(I)Ljava/lang/Object;" } : Jvm.MethodName)) ∈ lw_all := lw_g (lw_at lw_m4 106 rfl) rfl
theorem q942 : (Jvm.Cond.unhidden "java/util/ArrayList" "get" "(I)Ljava/lang/Object;") ∈ lw_tbl := lw_at lw_m4 107 rfl
theorem q943 : (Jvm.Cond.instanceMethod ({ cls := "java/util/ArrayList", name := "get", desc := "(I)Ljava/lang/Object;" } : Jvm.MethodName)) ∈ lw_all := lw_g (lw_at lw_m4 108 rfl) rfl
theorem q944 : (Jvm.Cond.publicMethod ({ cls := "java/util/ArrayList", name := "get", desc := "(I)Ljava/lang/Object;" } : Jvm.MethodName)) ∈ lw_tbl := lw_at lw_m4 109 rfl
theorem q945 : (Jvm.Cond.code ({ cls := "java/util/ArrayList", name := "get", desc := "(I)Ljava/lang/Object;" } : Jvm.MethodName) prog_43_method_20_code (2 : Nat) (Option.some (Jvm.ClassFile.FieldType.object "java/lang/Object"))) ∈ lw_all := lw_g (lw_at lw_m4 110 rfl) rfl
theorem q946 : (Jvm.Cond.methodLink "java/util/ArrayList" (118 : Nat) ({ cls := "java/util/Objects", name := "checkIndex", desc := "(II)I" } : Jvm.MethodName)) ∈ lw_all := lw_g (lw_at lw_m4 111 rfl) rfl
theorem q950 : (Jvm.Cond.methodLink "java/util/ArrayList" (123 : Nat) ({ cls := "java/util/ArrayList", name := "elementData", desc := "(I)Ljava/lang/Object;" } : Jvm.MethodName)) ∈ lw_all := lw_g (lw_at lw_m4 115 rfl) rfl
theorem q951 : (Jvm.Cond.instanceMethod ({ cls := "java/util/ArrayList", name := "elementData", desc := "(I)Ljava/lang/Object;" } : Jvm.MethodName)) ∈ lw_all := lw_g (lw_at lw_m4 116 rfl) rfl
theorem q952 : (Jvm.Cond.selects "java/util/ArrayList" ({ cls := "java/util/ArrayList", name := "elementData", desc := "(I)Ljava/lang/Object;" } : Jvm.MethodName) ({ cls := "java/util/ArrayList", name := "elementData", desc := "(I)Ljava/lang/Object;" } : Jvm.MethodName)) ∈ lw_all := lw_g (lw_at lw_m4 117 rfl) rfl
theorem q953 : (Jvm.Cond.code ({ cls := "java/util/ArrayList", name := "elementData", desc := "(I)Ljava/lang/Object;" } : Jvm.MethodName) prog_43_method_18_code (2 : Nat) (Option.some (Jvm.ClassFile.FieldType.object "java/lang/Object"))) ∈ lw_all := lw_g (lw_at lw_m4 118 rfl) rfl
theorem q1104 : (Jvm.Cond.selects "java/util/ArrayList" ({ cls := "java/util/List", name := "isEmpty", desc := "()Z" } : Jvm.MethodName) ({ cls := "java/util/ArrayList", name := "isEmpty", desc := "()Z" } : Jvm.MethodName)) ∈ lw_all := lw_g (lw_at lw_m5 29 rfl) rfl
theorem q1105 : (Jvm.Cond.unhidden "java/util/ArrayList" "isEmpty" "()Z") ∈ lw_tbl := lw_at lw_m5 30 rfl
theorem q1106 : (Jvm.Cond.instanceMethod ({ cls := "java/util/ArrayList", name := "isEmpty", desc := "()Z" } : Jvm.MethodName)) ∈ lw_all := lw_g (lw_at lw_m5 31 rfl) rfl
theorem q1107 : (Jvm.Cond.publicMethod ({ cls := "java/util/ArrayList", name := "isEmpty", desc := "()Z" } : Jvm.MethodName)) ∈ lw_tbl := lw_at lw_m5 32 rfl
theorem q1108 : (Jvm.Cond.code ({ cls := "java/util/ArrayList", name := "isEmpty", desc := "()Z" } : Jvm.MethodName) prog_43_method_9_code (1 : Nat) (Option.some Jvm.ClassFile.FieldType.boolean)) ∈ lw_all := lw_g (lw_at lw_m5 33 rfl) rfl
theorem q1408 : (Jvm.Cond.selects "java/util/ArrayList" ({ cls := "java/util/List", name := "iterator", desc := "()Ljava/util/Iterator;" } : Jvm.MethodName) ({ cls := "java/util/ArrayList", name := "iterator", desc := "()Ljava/util/Iterator;" } : Jvm.MethodName)) ∈ lw_all := lw_g (lw_at lw_m6 93 rfl) rfl
theorem q1409 : (Jvm.Cond.unhidden "java/util/ArrayList" "iterator" "()Ljava/util/Iterator;") ∈ lw_tbl := lw_at lw_m6 94 rfl
theorem q1410 : (Jvm.Cond.instanceMethod ({ cls := "java/util/ArrayList", name := "iterator", desc := "()Ljava/util/Iterator;" } : Jvm.MethodName)) ∈ lw_all := lw_g (lw_at lw_m6 95 rfl) rfl
theorem q1411 : (Jvm.Cond.publicMethod ({ cls := "java/util/ArrayList", name := "iterator", desc := "()Ljava/util/Iterator;" } : Jvm.MethodName)) ∈ lw_tbl := lw_at lw_m6 96 rfl
theorem q1412 : (Jvm.Cond.code ({ cls := "java/util/ArrayList", name := "iterator", desc := "()Ljava/util/Iterator;" } : Jvm.MethodName) prog_43_method_55_code (1 : Nat) (Option.some (Jvm.ClassFile.FieldType.object "java/util/Iterator"))) ∈ lw_all := lw_g (lw_at lw_m6 97 rfl) rfl
theorem q1413 : (Jvm.Cond.classLink "java/util/ArrayList" (267 : Nat) "java/util/ArrayList$Itr") ∈ lw_all := lw_g (lw_at lw_m6 98 rfl) rfl
theorem q1415 : (Jvm.Cond.methodLink "java/util/ArrayList" (269 : Nat) ({ cls := "java/util/ArrayList$Itr", name := "<init>", desc := "(Ljava/util/ArrayList;)V" } : Jvm.MethodName)) ∈ lw_all := lw_g (lw_at lw_m6 100 rfl) rfl
theorem q2725 : (Jvm.Cond.castable "java/util/ArrayList" "java/lang/Object") ∈ lw_tbl := lw_at lw_m11 210 rfl
theorem in_J7 : ∀ w ∈ wsJ70, w ∈ lw_all := lw_in wsJ70 [258, 254, 256] (by decide +kernel) (by decide +kernel)

/-! java/lang/StringLatin1 -/
set_option maxRecDepth 100000
def RJ8 : String := "java/lang/StringLatin1"
abbrev cJ8_charAt : ByteArray := prog_33_method_2_code
def yJ8_charAt : MethodName := ⟨RJ8, "charAt", "([BI)C"⟩
def dkwJ8_charAt_0 : List UInt8 := [27, 42, 190, 184, 0, 9, 42, 27, 51, 17, 0, 255, 126, 146, 172]
abbrev dktJ8_charAt_0 : List UInt8 := dkwJ8_charAt_0 ++ []
theorem dksJ8_charAt_0 : cJ8_charAt.data.toList.drop 0 = dktJ8_charAt_0 := by decide +kernel
theorem dJ8_charAt_0 : decode cJ8_charAt 0 = .ok (.iload_n 1, 1) := dk_27 (dk_at dksJ8_charAt_0 0 rfl rfl)
theorem dJ8_charAt_1 : decode cJ8_charAt 1 = .ok (.aload_n 0, 1) := dk_42 (dk_at dksJ8_charAt_0 1 rfl rfl)
theorem dJ8_charAt_2 : decode cJ8_charAt 2 = .ok (.arraylength, 1) := dk_190 (dk_at dksJ8_charAt_0 2 rfl rfl)
theorem dJ8_charAt_3 : decode cJ8_charAt 3 = .ok (.invokestatic 9, 3) := dk_184 0 9 (dk_at dksJ8_charAt_0 3 rfl rfl)
theorem dJ8_charAt_6 : decode cJ8_charAt 6 = .ok (.aload_n 0, 1) := dk_42 (dk_at dksJ8_charAt_0 6 rfl rfl)
theorem dJ8_charAt_7 : decode cJ8_charAt 7 = .ok (.iload_n 1, 1) := dk_27 (dk_at dksJ8_charAt_0 7 rfl rfl)
theorem dJ8_charAt_8 : decode cJ8_charAt 8 = .ok (.baload, 1) := dk_51 (dk_at dksJ8_charAt_0 8 rfl rfl)
theorem dJ8_charAt_9 : decode cJ8_charAt 9 = .ok (.sipush 255, 3) := dk_17 0 255 (dk_at dksJ8_charAt_0 9 rfl rfl)
theorem dJ8_charAt_12 : decode cJ8_charAt 12 = .ok (.iand, 1) := dk_126 (dk_at dksJ8_charAt_0 12 rfl rfl)
theorem dJ8_charAt_13 : decode cJ8_charAt 13 = .ok (.i2c, 1) := dk_146 (dk_at dksJ8_charAt_0 13 rfl rfl)
theorem dJ8_charAt_14 : decode cJ8_charAt 14 = .ok (.ireturn, 1) := dk_172 (dk_at dksJ8_charAt_0 14 rfl rfl)
abbrev cJ8_newString : ByteArray := prog_33_method_47_code
def yJ8_newString : MethodName := ⟨RJ8, "newString", "([BII)Ljava/lang/String;"⟩
def dkwJ8_newString_0 : List UInt8 := [28, 154, 0, 6, 18, 151, 176, 187, 0, 1, 89, 42, 27, 27, 28, 96, 184, 0, 232, 3, 183, 0, 112, 176]
abbrev dktJ8_newString_0 : List UInt8 := dkwJ8_newString_0 ++ []
theorem dksJ8_newString_0 : cJ8_newString.data.toList.drop 0 = dktJ8_newString_0 := by decide +kernel
theorem dJ8_newString_0 : decode cJ8_newString 0 = .ok (.iload_n 2, 1) := dk_28 (dk_at dksJ8_newString_0 0 rfl rfl)
theorem dJ8_newString_1 : decode cJ8_newString 1 = .ok (.ifCond .ne 6, 3) := dk_154 0 6 (dk_at dksJ8_newString_0 1 rfl rfl)
theorem dJ8_newString_4 : decode cJ8_newString 4 = .ok (.ldc 151, 2) := dk_18 151 (dk_at dksJ8_newString_0 4 rfl rfl)
theorem dJ8_newString_6 : decode cJ8_newString 6 = .ok (.areturn, 1) := dk_176 (dk_at dksJ8_newString_0 6 rfl rfl)
theorem dJ8_newString_7 : decode cJ8_newString 7 = .ok (.new 1, 3) := dk_187 0 1 (dk_at dksJ8_newString_0 7 rfl rfl)
theorem dJ8_newString_10 : decode cJ8_newString 10 = .ok (.dup, 1) := dk_89 (dk_at dksJ8_newString_0 10 rfl rfl)
theorem dJ8_newString_11 : decode cJ8_newString 11 = .ok (.aload_n 0, 1) := dk_42 (dk_at dksJ8_newString_0 11 rfl rfl)
theorem dJ8_newString_12 : decode cJ8_newString 12 = .ok (.iload_n 1, 1) := dk_27 (dk_at dksJ8_newString_0 12 rfl rfl)
theorem dJ8_newString_13 : decode cJ8_newString 13 = .ok (.iload_n 1, 1) := dk_27 (dk_at dksJ8_newString_0 13 rfl rfl)
theorem dJ8_newString_14 : decode cJ8_newString 14 = .ok (.iload_n 2, 1) := dk_28 (dk_at dksJ8_newString_0 14 rfl rfl)
theorem dJ8_newString_15 : decode cJ8_newString 15 = .ok (.iadd, 1) := dk_96 (dk_at dksJ8_newString_0 15 rfl rfl)
theorem dJ8_newString_16 : decode cJ8_newString 16 = .ok (.invokestatic 232, 3) := dk_184 0 232 (dk_at dksJ8_newString_0 16 rfl rfl)
theorem dJ8_newString_19 : decode cJ8_newString 19 = .ok (.iconst 0, 1) := dk_3 (dk_at dksJ8_newString_0 19 rfl rfl)
theorem dJ8_newString_20 : decode cJ8_newString 20 = .ok (.invokespecial 112, 3) := dk_183 0 112 (dk_at dksJ8_newString_0 20 rfl rfl)
theorem dJ8_newString_23 : decode cJ8_newString 23 = .ok (.areturn, 1) := dk_176 (dk_at dksJ8_newString_0 23 rfl rfl)
abbrev cJ8_inflate : ByteArray := prog_33_method_50_code
def yJ8_inflate : MethodName := ⟨RJ8, "inflate", "([BI[BII)V"⟩
def dkwJ8_inflate_0 : List UInt8 := [42, 27, 44, 29, 21, 4, 184, 0, 240, 177]
abbrev dktJ8_inflate_0 : List UInt8 := dkwJ8_inflate_0 ++ []
theorem dksJ8_inflate_0 : cJ8_inflate.data.toList.drop 0 = dktJ8_inflate_0 := by decide +kernel
theorem dJ8_inflate_0 : decode cJ8_inflate 0 = .ok (.aload_n 0, 1) := dk_42 (dk_at dksJ8_inflate_0 0 rfl rfl)
theorem dJ8_inflate_1 : decode cJ8_inflate 1 = .ok (.iload_n 1, 1) := dk_27 (dk_at dksJ8_inflate_0 1 rfl rfl)
theorem dJ8_inflate_2 : decode cJ8_inflate 2 = .ok (.aload_n 2, 1) := dk_44 (dk_at dksJ8_inflate_0 2 rfl rfl)
theorem dJ8_inflate_3 : decode cJ8_inflate 3 = .ok (.iload_n 3, 1) := dk_29 (dk_at dksJ8_inflate_0 3 rfl rfl)
theorem dJ8_inflate_4 : decode cJ8_inflate 4 = .ok (.iload 4, 2) := dk_21 4 (dk_at dksJ8_inflate_0 4 rfl rfl)
theorem dJ8_inflate_6 : decode cJ8_inflate 6 = .ok (.invokestatic 240, 3) := dk_184 0 240 (dk_at dksJ8_inflate_0 6 rfl rfl)
theorem dJ8_inflate_9 : decode cJ8_inflate 9 = .ok (.return_, 1) := dk_177 (dk_at dksJ8_inflate_0 9 rfl rfl)
abbrev cJ8_equals : ByteArray := prog_33_method_13_code
def yJ8_equals : MethodName := ⟨RJ8, "equals", "([B[B)Z"⟩
def dkwJ8_equals_1 : List UInt8 := [3, 172, 132, 2, 1, 167, 255, 236, 4, 172, 3, 172]
abbrev dktJ8_equals_1 : List UInt8 := dkwJ8_equals_1 ++ []
def dkwJ8_equals_0 : List UInt8 := [42, 190, 43, 190, 160, 0, 30, 3, 61, 28, 42, 190, 162, 0, 20, 42, 28, 51, 43, 28, 51, 159, 0, 5]
abbrev dktJ8_equals_0 : List UInt8 := dkwJ8_equals_0 ++ dktJ8_equals_1
theorem dksJ8_equals_0 : cJ8_equals.data.toList.drop 0 = dktJ8_equals_0 := by decide +kernel
theorem dksJ8_equals_1 : cJ8_equals.data.toList.drop 24 = dktJ8_equals_1 := dk_seg dksJ8_equals_0 24 rfl rfl
theorem dJ8_equals_0 : decode cJ8_equals 0 = .ok (.aload_n 0, 1) := dk_42 (dk_at dksJ8_equals_0 0 rfl rfl)
theorem dJ8_equals_1 : decode cJ8_equals 1 = .ok (.arraylength, 1) := dk_190 (dk_at dksJ8_equals_0 1 rfl rfl)
theorem dJ8_equals_2 : decode cJ8_equals 2 = .ok (.aload_n 1, 1) := dk_43 (dk_at dksJ8_equals_0 2 rfl rfl)
theorem dJ8_equals_3 : decode cJ8_equals 3 = .ok (.arraylength, 1) := dk_190 (dk_at dksJ8_equals_0 3 rfl rfl)
theorem dJ8_equals_4 : decode cJ8_equals 4 = .ok (.if_icmp .ne 30, 3) := dk_160 0 30 (dk_at dksJ8_equals_0 4 rfl rfl)
theorem dJ8_equals_7 : decode cJ8_equals 7 = .ok (.iconst 0, 1) := dk_3 (dk_at dksJ8_equals_0 7 rfl rfl)
theorem dJ8_equals_8 : decode cJ8_equals 8 = .ok (.istore_n 2, 1) := dk_61 (dk_at dksJ8_equals_0 8 rfl rfl)
theorem dJ8_equals_9 : decode cJ8_equals 9 = .ok (.iload_n 2, 1) := dk_28 (dk_at dksJ8_equals_0 9 rfl rfl)
theorem dJ8_equals_10 : decode cJ8_equals 10 = .ok (.aload_n 0, 1) := dk_42 (dk_at dksJ8_equals_0 10 rfl rfl)
theorem dJ8_equals_11 : decode cJ8_equals 11 = .ok (.arraylength, 1) := dk_190 (dk_at dksJ8_equals_0 11 rfl rfl)
theorem dJ8_equals_12 : decode cJ8_equals 12 = .ok (.if_icmp .ge 20, 3) := dk_162 0 20 (dk_at dksJ8_equals_0 12 rfl rfl)
theorem dJ8_equals_15 : decode cJ8_equals 15 = .ok (.aload_n 0, 1) := dk_42 (dk_at dksJ8_equals_0 15 rfl rfl)
theorem dJ8_equals_16 : decode cJ8_equals 16 = .ok (.iload_n 2, 1) := dk_28 (dk_at dksJ8_equals_0 16 rfl rfl)
theorem dJ8_equals_17 : decode cJ8_equals 17 = .ok (.baload, 1) := dk_51 (dk_at dksJ8_equals_0 17 rfl rfl)
theorem dJ8_equals_18 : decode cJ8_equals 18 = .ok (.aload_n 1, 1) := dk_43 (dk_at dksJ8_equals_0 18 rfl rfl)
theorem dJ8_equals_19 : decode cJ8_equals 19 = .ok (.iload_n 2, 1) := dk_28 (dk_at dksJ8_equals_0 19 rfl rfl)
theorem dJ8_equals_20 : decode cJ8_equals 20 = .ok (.baload, 1) := dk_51 (dk_at dksJ8_equals_0 20 rfl rfl)
theorem dJ8_equals_21 : decode cJ8_equals 21 = .ok (.if_icmp .eq 5, 3) := dk_159 0 5 (dk_at dksJ8_equals_0 21 rfl rfl)
theorem dJ8_equals_24 : decode cJ8_equals 24 = .ok (.iconst 0, 1) := dk_3 (dk_at dksJ8_equals_1 0 rfl rfl)
theorem dJ8_equals_25 : decode cJ8_equals 25 = .ok (.ireturn, 1) := dk_172 (dk_at dksJ8_equals_1 1 rfl rfl)
theorem dJ8_equals_26 : decode cJ8_equals 26 = .ok (.iinc 2 1, 3) := dk_132 2 1 (dk_at dksJ8_equals_1 2 rfl rfl)
theorem dJ8_equals_29 : decode cJ8_equals 29 = .ok (.goto (-20), 3) := dk_167 255 236 (dk_at dksJ8_equals_1 5 rfl rfl)
theorem dJ8_equals_32 : decode cJ8_equals 32 = .ok (.iconst 1, 1) := dk_4 (dk_at dksJ8_equals_1 8 rfl rfl)
theorem dJ8_equals_33 : decode cJ8_equals 33 = .ok (.ireturn, 1) := dk_172 (dk_at dksJ8_equals_1 9 rfl rfl)
theorem dJ8_equals_34 : decode cJ8_equals 34 = .ok (.iconst 0, 1) := dk_3 (dk_at dksJ8_equals_1 10 rfl rfl)
theorem dJ8_equals_35 : decode cJ8_equals 35 = .ok (.ireturn, 1) := dk_172 (dk_at dksJ8_equals_1 11 rfl rfl)
abbrev cJ8_hashCode : ByteArray := prog_33_method_21_code
def yJ8_hashCode : MethodName := ⟨RJ8, "hashCode", "([B)I"⟩
def dkwJ8_hashCode_2 : List UInt8 := [3, 167, 0, 22, 42, 3, 51, 17, 0, 255, 126, 167, 0, 12, 42, 3, 42, 190, 3, 7, 184, 0, 84, 172]
abbrev dktJ8_hashCode_2 : List UInt8 := dkwJ8_hashCode_2 ++ []
def dkwJ8_hashCode_1 : List UInt8 := [171, 0, 0, 0, 0, 40, 0, 0, 0, 2, 0, 0, 0, 0, 0, 0, 0, 26, 0, 0, 0, 1, 0, 0, 0, 30]
abbrev dktJ8_hashCode_1 : List UInt8 := dkwJ8_hashCode_1 ++ dktJ8_hashCode_2
def dkwJ8_hashCode_0 : List UInt8 := [42, 190]
abbrev dktJ8_hashCode_0 : List UInt8 := dkwJ8_hashCode_0 ++ dktJ8_hashCode_1
theorem dksJ8_hashCode_0 : cJ8_hashCode.data.toList.drop 0 = dktJ8_hashCode_0 := by decide +kernel
theorem dksJ8_hashCode_1 : cJ8_hashCode.data.toList.drop 2 = dktJ8_hashCode_1 := dk_seg dksJ8_hashCode_0 2 rfl rfl
theorem dksJ8_hashCode_2 : cJ8_hashCode.data.toList.drop 28 = dktJ8_hashCode_2 := dk_seg dksJ8_hashCode_1 26 rfl rfl
theorem dJ8_hashCode_0 : decode cJ8_hashCode 0 = .ok (.aload_n 0, 1) := dk_42 (dk_at dksJ8_hashCode_0 0 rfl rfl)
theorem dJ8_hashCode_1 : decode cJ8_hashCode 1 = .ok (.arraylength, 1) := dk_190 (dk_at dksJ8_hashCode_0 1 rfl rfl)
theorem dJ8_hashCode_2 : decode cJ8_hashCode 2 = .ok (.lookupswitch 40 #[(0, 26), (1, 30)], 26) := by decide +kernel
theorem dJ8_hashCode_28 : decode cJ8_hashCode 28 = .ok (.iconst 0, 1) := dk_3 (dk_at dksJ8_hashCode_2 0 rfl rfl)
theorem dJ8_hashCode_29 : decode cJ8_hashCode 29 = .ok (.goto 22, 3) := dk_167 0 22 (dk_at dksJ8_hashCode_2 1 rfl rfl)
theorem dJ8_hashCode_32 : decode cJ8_hashCode 32 = .ok (.aload_n 0, 1) := dk_42 (dk_at dksJ8_hashCode_2 4 rfl rfl)
theorem dJ8_hashCode_33 : decode cJ8_hashCode 33 = .ok (.iconst 0, 1) := dk_3 (dk_at dksJ8_hashCode_2 5 rfl rfl)
theorem dJ8_hashCode_34 : decode cJ8_hashCode 34 = .ok (.baload, 1) := dk_51 (dk_at dksJ8_hashCode_2 6 rfl rfl)
theorem dJ8_hashCode_35 : decode cJ8_hashCode 35 = .ok (.sipush 255, 3) := dk_17 0 255 (dk_at dksJ8_hashCode_2 7 rfl rfl)
theorem dJ8_hashCode_38 : decode cJ8_hashCode 38 = .ok (.iand, 1) := dk_126 (dk_at dksJ8_hashCode_2 10 rfl rfl)
theorem dJ8_hashCode_39 : decode cJ8_hashCode 39 = .ok (.goto 12, 3) := dk_167 0 12 (dk_at dksJ8_hashCode_2 11 rfl rfl)
theorem dJ8_hashCode_42 : decode cJ8_hashCode 42 = .ok (.aload_n 0, 1) := dk_42 (dk_at dksJ8_hashCode_2 14 rfl rfl)
theorem dJ8_hashCode_43 : decode cJ8_hashCode 43 = .ok (.iconst 0, 1) := dk_3 (dk_at dksJ8_hashCode_2 15 rfl rfl)
theorem dJ8_hashCode_44 : decode cJ8_hashCode 44 = .ok (.aload_n 0, 1) := dk_42 (dk_at dksJ8_hashCode_2 16 rfl rfl)
theorem dJ8_hashCode_45 : decode cJ8_hashCode 45 = .ok (.arraylength, 1) := dk_190 (dk_at dksJ8_hashCode_2 17 rfl rfl)
theorem dJ8_hashCode_46 : decode cJ8_hashCode 46 = .ok (.iconst 0, 1) := dk_3 (dk_at dksJ8_hashCode_2 18 rfl rfl)
theorem dJ8_hashCode_47 : decode cJ8_hashCode 47 = .ok (.iconst 4, 1) := dk_7 (dk_at dksJ8_hashCode_2 19 rfl rfl)
theorem dJ8_hashCode_48 : decode cJ8_hashCode 48 = .ok (.invokestatic 84, 3) := dk_184 0 84 (dk_at dksJ8_hashCode_2 20 rfl rfl)
theorem dJ8_hashCode_51 : decode cJ8_hashCode 51 = .ok (.ireturn, 1) := dk_172 (dk_at dksJ8_hashCode_2 23 rfl rfl)
abbrev cJ8_canEncode : ByteArray := prog_33_method_3_code
def yJ8_canEncode : MethodName := ⟨RJ8, "canEncode", "(C)Z"⟩
def dkwJ8_canEncode_0 : List UInt8 := [26, 17, 0, 255, 163, 0, 7, 4, 167, 0, 4, 3, 172]
abbrev dktJ8_canEncode_0 : List UInt8 := dkwJ8_canEncode_0 ++ []
theorem dksJ8_canEncode_0 : cJ8_canEncode.data.toList.drop 0 = dktJ8_canEncode_0 := by decide +kernel
theorem dJ8_canEncode_0 : decode cJ8_canEncode 0 = .ok (.iload_n 0, 1) := dk_26 (dk_at dksJ8_canEncode_0 0 rfl rfl)
theorem dJ8_canEncode_1 : decode cJ8_canEncode 1 = .ok (.sipush 255, 3) := dk_17 0 255 (dk_at dksJ8_canEncode_0 1 rfl rfl)
theorem dJ8_canEncode_4 : decode cJ8_canEncode 4 = .ok (.if_icmp .gt 7, 3) := dk_163 0 7 (dk_at dksJ8_canEncode_0 4 rfl rfl)
theorem dJ8_canEncode_7 : decode cJ8_canEncode 7 = .ok (.iconst 1, 1) := dk_4 (dk_at dksJ8_canEncode_0 7 rfl rfl)
theorem dJ8_canEncode_8 : decode cJ8_canEncode 8 = .ok (.goto 4, 3) := dk_167 0 4 (dk_at dksJ8_canEncode_0 8 rfl rfl)
theorem dJ8_canEncode_11 : decode cJ8_canEncode 11 = .ok (.iconst 0, 1) := dk_3 (dk_at dksJ8_canEncode_0 11 rfl rfl)
theorem dJ8_canEncode_12 : decode cJ8_canEncode 12 = .ok (.ireturn, 1) := dk_172 (dk_at dksJ8_canEncode_0 12 rfl rfl)
abbrev cJ8_fillNull : ByteArray := prog_33_method_48_code
def yJ8_fillNull : MethodName := ⟨RJ8, "fillNull", "([BII)V"⟩
def dkwJ8_fillNull_0 : List UInt8 := [42, 27, 28, 3, 184, 0, 236, 177]
abbrev dktJ8_fillNull_0 : List UInt8 := dkwJ8_fillNull_0 ++ []
theorem dksJ8_fillNull_0 : cJ8_fillNull.data.toList.drop 0 = dktJ8_fillNull_0 := by decide +kernel
theorem dJ8_fillNull_0 : decode cJ8_fillNull 0 = .ok (.aload_n 0, 1) := dk_42 (dk_at dksJ8_fillNull_0 0 rfl rfl)
theorem dJ8_fillNull_1 : decode cJ8_fillNull 1 = .ok (.iload_n 1, 1) := dk_27 (dk_at dksJ8_fillNull_0 1 rfl rfl)
theorem dJ8_fillNull_2 : decode cJ8_fillNull 2 = .ok (.iload_n 2, 1) := dk_28 (dk_at dksJ8_fillNull_0 2 rfl rfl)
theorem dJ8_fillNull_3 : decode cJ8_fillNull 3 = .ok (.iconst 0, 1) := dk_3 (dk_at dksJ8_fillNull_0 3 rfl rfl)
theorem dJ8_fillNull_4 : decode cJ8_fillNull 4 = .ok (.invokestatic 236, 3) := dk_184 0 236 (dk_at dksJ8_fillNull_0 4 rfl rfl)
theorem dJ8_fillNull_7 : decode cJ8_fillNull 7 = .ok (.return_, 1) := dk_177 (dk_at dksJ8_fillNull_0 7 rfl rfl)
theorem q129 : (Jvm.Cond.initialized "java/lang/StringLatin1") ∈ lw_all := lw_g (lw_at lw_m1 14 rfl) rfl
theorem q324 : (Jvm.Cond.static ({ cls := "java/lang/StringLatin1", name := "charAt", desc := "([BI)C" } : Jvm.MethodName)) ∈ lw_all := lw_g (lw_at lw_m1 209 rfl) rfl
theorem q325 : (Jvm.Cond.code ({ cls := "java/lang/StringLatin1", name := "charAt", desc := "([BI)C" } : Jvm.MethodName) prog_33_method_2_code (2 : Nat) (Option.some Jvm.ClassFile.FieldType.char)) ∈ lw_all := lw_g (lw_at lw_m1 210 rfl) rfl
theorem q326 : (Jvm.Cond.methodLink "java/lang/StringLatin1" (9 : Nat) ({ cls := "java/lang/String", name := "checkIndex", desc := "(II)V" } : Jvm.MethodName)) ∈ lw_all := lw_g (lw_at lw_m1 211 rfl) rfl
theorem q365 : (Jvm.Cond.static ({ cls := "java/lang/StringLatin1", name := "newString", desc := "([BII)Ljava/lang/String;" } : Jvm.MethodName)) ∈ lw_all := lw_g (lw_at lw_m2 10 rfl) rfl
theorem q366 : (Jvm.Cond.code ({ cls := "java/lang/StringLatin1", name := "newString", desc := "([BII)Ljava/lang/String;" } : Jvm.MethodName) prog_33_method_47_code (3 : Nat) (Option.some (Jvm.ClassFile.FieldType.object "java/lang/String"))) ∈ lw_all := lw_g (lw_at lw_m2 11 rfl) rfl
theorem q367 : (Jvm.Cond.stringRef "java/lang/StringLatin1" (151 : Nat) "") ∈ lw_tbl := lw_at lw_m2 12 rfl
theorem q368 : (Jvm.Cond.classLink "java/lang/StringLatin1" (1 : Nat) "java/lang/String") ∈ lw_all := lw_g (lw_at lw_m2 13 rfl) rfl
theorem q370 : (Jvm.Cond.methodLink "java/lang/StringLatin1" (232 : Nat) ({ cls := "java/util/Arrays", name := "copyOfRange", desc := "([BII)[B" } : Jvm.MethodName)) ∈ lw_all := lw_g (lw_at lw_m2 15 rfl) rfl
theorem q528 : (Jvm.Cond.static ({ cls := "java/lang/StringLatin1", name := "inflate", desc := "([BI[BII)V" } : Jvm.MethodName)) ∈ lw_all := lw_g (lw_at lw_m2 173 rfl) rfl
theorem q529 : (Jvm.Cond.code ({ cls := "java/lang/StringLatin1", name := "inflate", desc := "([BI[BII)V" } : Jvm.MethodName) prog_33_method_50_code (5 : Nat) (Option.none : Option Jvm.ClassFile.FieldType)) ∈ lw_all := lw_g (lw_at lw_m2 174 rfl) rfl
theorem q530 : (Jvm.Cond.methodLink "java/lang/StringLatin1" (240 : Nat) ({ cls := "java/lang/StringUTF16", name := "inflate", desc := "([BI[BII)V" } : Jvm.MethodName)) ∈ lw_all := lw_g (lw_at lw_m2 175 rfl) rfl
theorem q623 : (Jvm.Cond.methodLink "java/lang/StringLatin1" (112 : Nat) ({ cls := "java/lang/String", name := "<init>", desc := "([BB)V" } : Jvm.MethodName)) ∈ lw_all := lw_g (lw_at lw_m3 28 rfl) rfl
theorem q693 : (Jvm.Cond.static ({ cls := "java/lang/StringLatin1", name := "equals", desc := "([B[B)Z" } : Jvm.MethodName)) ∈ lw_all := lw_g (lw_at lw_m3 98 rfl) rfl
theorem q694 : (Jvm.Cond.code ({ cls := "java/lang/StringLatin1", name := "equals", desc := "([B[B)Z" } : Jvm.MethodName) prog_33_method_13_code (3 : Nat) (Option.some Jvm.ClassFile.FieldType.boolean)) ∈ lw_all := lw_g (lw_at lw_m3 99 rfl) rfl
theorem q750 : (Jvm.Cond.static ({ cls := "java/lang/StringLatin1", name := "hashCode", desc := "([B)I" } : Jvm.MethodName)) ∈ lw_all := lw_g (lw_at lw_m3 155 rfl) rfl
theorem q751 : (Jvm.Cond.code ({ cls := "java/lang/StringLatin1", name := "hashCode", desc := "([B)I" } : Jvm.MethodName) prog_33_method_21_code (1 : Nat) (Option.some Jvm.ClassFile.FieldType.int)) ∈ lw_all := lw_g (lw_at lw_m3 156 rfl) rfl
theorem q752 : (Jvm.Cond.methodLink "java/lang/StringLatin1" (84 : Nat) ({ cls := "jdk/internal/util/ArraysSupport", name := "vectorizedHashCode", desc := "(Ljava/lang/Object;IIII)I" } : Jvm.MethodName)) ∈ lw_all := lw_g (lw_at lw_m3 157 rfl) rfl
theorem q1258 : (Jvm.Cond.static ({ cls := "java/lang/StringLatin1", name := "canEncode", desc := "(C)Z" } : Jvm.MethodName)) ∈ lw_all := lw_g (lw_at lw_m5 183 rfl) rfl
theorem q1259 : (Jvm.Cond.code ({ cls := "java/lang/StringLatin1", name := "canEncode", desc := "(C)Z" } : Jvm.MethodName) prog_33_method_3_code (1 : Nat) (Option.some Jvm.ClassFile.FieldType.boolean)) ∈ lw_all := lw_g (lw_at lw_m5 184 rfl) rfl
theorem q1298 : (Jvm.Cond.static ({ cls := "java/lang/StringLatin1", name := "fillNull", desc := "([BII)V" } : Jvm.MethodName)) ∈ lw_all := lw_g (lw_at lw_m5 223 rfl) rfl
theorem q1299 : (Jvm.Cond.code ({ cls := "java/lang/StringLatin1", name := "fillNull", desc := "([BII)V" } : Jvm.MethodName) prog_33_method_48_code (3 : Nat) (Option.none : Option Jvm.ClassFile.FieldType)) ∈ lw_all := lw_g (lw_at lw_m5 224 rfl) rfl
theorem q1300 : (Jvm.Cond.methodLink "java/lang/StringLatin1" (236 : Nat) ({ cls := "java/util/Arrays", name := "fill", desc := "([BIIB)V" } : Jvm.MethodName)) ∈ lw_all := lw_g (lw_at lw_m5 225 rfl) rfl

/-! jdk/internal/util/Preconditions -/
set_option maxRecDepth 100000
def RJ9 : String := "jdk/internal/util/Preconditions"
abbrev cJ9_checkIndex : ByteArray := prog_57_method_11_code
def yJ9_checkIndex : MethodName := ⟨RJ9, "checkIndex", "(IILjava/util/function/BiFunction;)I"⟩
def dkwJ9_checkIndex_0 : List UInt8 := [26, 155, 0, 8, 26, 27, 161, 0, 10, 44, 26, 27, 184, 0, 95, 191, 26, 172]
abbrev dktJ9_checkIndex_0 : List UInt8 := dkwJ9_checkIndex_0 ++ []
theorem dksJ9_checkIndex_0 : cJ9_checkIndex.data.toList.drop 0 = dktJ9_checkIndex_0 := by decide +kernel
theorem dJ9_checkIndex_0 : decode cJ9_checkIndex 0 = .ok (.iload_n 0, 1) := dk_26 (dk_at dksJ9_checkIndex_0 0 rfl rfl)
theorem dJ9_checkIndex_1 : decode cJ9_checkIndex 1 = .ok (.ifCond .lt 8, 3) := dk_155 0 8 (dk_at dksJ9_checkIndex_0 1 rfl rfl)
theorem dJ9_checkIndex_4 : decode cJ9_checkIndex 4 = .ok (.iload_n 0, 1) := dk_26 (dk_at dksJ9_checkIndex_0 4 rfl rfl)
theorem dJ9_checkIndex_5 : decode cJ9_checkIndex 5 = .ok (.iload_n 1, 1) := dk_27 (dk_at dksJ9_checkIndex_0 5 rfl rfl)
theorem dJ9_checkIndex_6 : decode cJ9_checkIndex 6 = .ok (.if_icmp .lt 10, 3) := dk_161 0 10 (dk_at dksJ9_checkIndex_0 6 rfl rfl)
theorem dJ9_checkIndex_9 : decode cJ9_checkIndex 9 = .ok (.aload_n 2, 1) := dk_44 (dk_at dksJ9_checkIndex_0 9 rfl rfl)
theorem dJ9_checkIndex_10 : decode cJ9_checkIndex 10 = .ok (.iload_n 0, 1) := dk_26 (dk_at dksJ9_checkIndex_0 10 rfl rfl)
theorem dJ9_checkIndex_11 : decode cJ9_checkIndex 11 = .ok (.iload_n 1, 1) := dk_27 (dk_at dksJ9_checkIndex_0 11 rfl rfl)
theorem dJ9_checkIndex_12 : decode cJ9_checkIndex 12 = .ok (.invokestatic 95, 3) := dk_184 0 95 (dk_at dksJ9_checkIndex_0 12 rfl rfl)
theorem dJ9_checkIndex_15 : decode cJ9_checkIndex 15 = .ok (.athrow, 1) := dk_191 (dk_at dksJ9_checkIndex_0 15 rfl rfl)
theorem dJ9_checkIndex_16 : decode cJ9_checkIndex 16 = .ok (.iload_n 0, 1) := dk_26 (dk_at dksJ9_checkIndex_0 16 rfl rfl)
theorem dJ9_checkIndex_17 : decode cJ9_checkIndex 17 = .ok (.ireturn, 1) := dk_172 (dk_at dksJ9_checkIndex_0 17 rfl rfl)
abbrev cJ9_checkFromToIndex : ByteArray := prog_57_method_12_code
def yJ9_checkFromToIndex : MethodName := ⟨RJ9, "checkFromToIndex", "(IIILjava/util/function/BiFunction;)I"⟩
def dkwJ9_checkFromToIndex_0 : List UInt8 := [26, 155, 0, 13, 26, 27, 163, 0, 8, 27, 28, 164, 0, 11, 45, 26, 27, 28, 184, 0, 99, 191, 26, 172]
abbrev dktJ9_checkFromToIndex_0 : List UInt8 := dkwJ9_checkFromToIndex_0 ++ []
theorem dksJ9_checkFromToIndex_0 : cJ9_checkFromToIndex.data.toList.drop 0 = dktJ9_checkFromToIndex_0 := by decide +kernel
theorem dJ9_checkFromToIndex_0 : decode cJ9_checkFromToIndex 0 = .ok (.iload_n 0, 1) := dk_26 (dk_at dksJ9_checkFromToIndex_0 0 rfl rfl)
theorem dJ9_checkFromToIndex_1 : decode cJ9_checkFromToIndex 1 = .ok (.ifCond .lt 13, 3) := dk_155 0 13 (dk_at dksJ9_checkFromToIndex_0 1 rfl rfl)
theorem dJ9_checkFromToIndex_4 : decode cJ9_checkFromToIndex 4 = .ok (.iload_n 0, 1) := dk_26 (dk_at dksJ9_checkFromToIndex_0 4 rfl rfl)
theorem dJ9_checkFromToIndex_5 : decode cJ9_checkFromToIndex 5 = .ok (.iload_n 1, 1) := dk_27 (dk_at dksJ9_checkFromToIndex_0 5 rfl rfl)
theorem dJ9_checkFromToIndex_6 : decode cJ9_checkFromToIndex 6 = .ok (.if_icmp .gt 8, 3) := dk_163 0 8 (dk_at dksJ9_checkFromToIndex_0 6 rfl rfl)
theorem dJ9_checkFromToIndex_9 : decode cJ9_checkFromToIndex 9 = .ok (.iload_n 1, 1) := dk_27 (dk_at dksJ9_checkFromToIndex_0 9 rfl rfl)
theorem dJ9_checkFromToIndex_10 : decode cJ9_checkFromToIndex 10 = .ok (.iload_n 2, 1) := dk_28 (dk_at dksJ9_checkFromToIndex_0 10 rfl rfl)
theorem dJ9_checkFromToIndex_11 : decode cJ9_checkFromToIndex 11 = .ok (.if_icmp .le 11, 3) := dk_164 0 11 (dk_at dksJ9_checkFromToIndex_0 11 rfl rfl)
theorem dJ9_checkFromToIndex_14 : decode cJ9_checkFromToIndex 14 = .ok (.aload_n 3, 1) := dk_45 (dk_at dksJ9_checkFromToIndex_0 14 rfl rfl)
theorem dJ9_checkFromToIndex_15 : decode cJ9_checkFromToIndex 15 = .ok (.iload_n 0, 1) := dk_26 (dk_at dksJ9_checkFromToIndex_0 15 rfl rfl)
theorem dJ9_checkFromToIndex_16 : decode cJ9_checkFromToIndex 16 = .ok (.iload_n 1, 1) := dk_27 (dk_at dksJ9_checkFromToIndex_0 16 rfl rfl)
theorem dJ9_checkFromToIndex_17 : decode cJ9_checkFromToIndex 17 = .ok (.iload_n 2, 1) := dk_28 (dk_at dksJ9_checkFromToIndex_0 17 rfl rfl)
theorem dJ9_checkFromToIndex_18 : decode cJ9_checkFromToIndex 18 = .ok (.invokestatic 99, 3) := dk_184 0 99 (dk_at dksJ9_checkFromToIndex_0 18 rfl rfl)
theorem dJ9_checkFromToIndex_21 : decode cJ9_checkFromToIndex 21 = .ok (.athrow, 1) := dk_191 (dk_at dksJ9_checkFromToIndex_0 21 rfl rfl)
theorem dJ9_checkFromToIndex_22 : decode cJ9_checkFromToIndex 22 = .ok (.iload_n 0, 1) := dk_26 (dk_at dksJ9_checkFromToIndex_0 22 rfl rfl)
theorem dJ9_checkFromToIndex_23 : decode cJ9_checkFromToIndex 23 = .ok (.ireturn, 1) := dk_172 (dk_at dksJ9_checkFromToIndex_0 23 rfl rfl)
abbrev cJ9_checkFromIndexSize : ByteArray := prog_57_method_13_code
def yJ9_checkFromIndexSize : MethodName := ⟨RJ9, "checkFromIndexSize", "(IIILjava/util/function/BiFunction;)I"⟩
def dkwJ9_checkFromIndexSize_1 : List UInt8 := [172]
abbrev dktJ9_checkFromIndexSize_1 : List UInt8 := dkwJ9_checkFromIndexSize_1 ++ []
def dkwJ9_checkFromIndexSize_0 : List UInt8 := [28, 26, 128, 27, 128, 155, 0, 10, 27, 28, 26, 100, 164, 0, 11, 45, 26, 27, 28, 184, 0, 103, 191, 26]
abbrev dktJ9_checkFromIndexSize_0 : List UInt8 := dkwJ9_checkFromIndexSize_0 ++ dktJ9_checkFromIndexSize_1
theorem dksJ9_checkFromIndexSize_0 : cJ9_checkFromIndexSize.data.toList.drop 0 = dktJ9_checkFromIndexSize_0 := by decide +kernel
theorem dksJ9_checkFromIndexSize_1 : cJ9_checkFromIndexSize.data.toList.drop 24 = dktJ9_checkFromIndexSize_1 := dk_seg dksJ9_checkFromIndexSize_0 24 rfl rfl
theorem dJ9_checkFromIndexSize_0 : decode cJ9_checkFromIndexSize 0 = .ok (.iload_n 2, 1) := dk_28 (dk_at dksJ9_checkFromIndexSize_0 0 rfl rfl)
theorem dJ9_checkFromIndexSize_1 : decode cJ9_checkFromIndexSize 1 = .ok (.iload_n 0, 1) := dk_26 (dk_at dksJ9_checkFromIndexSize_0 1 rfl rfl)
theorem dJ9_checkFromIndexSize_2 : decode cJ9_checkFromIndexSize 2 = .ok (.ior, 1) := dk_128 (dk_at dksJ9_checkFromIndexSize_0 2 rfl rfl)
theorem dJ9_checkFromIndexSize_3 : decode cJ9_checkFromIndexSize 3 = .ok (.iload_n 1, 1) := dk_27 (dk_at dksJ9_checkFromIndexSize_0 3 rfl rfl)
theorem dJ9_checkFromIndexSize_4 : decode cJ9_checkFromIndexSize 4 = .ok (.ior, 1) := dk_128 (dk_at dksJ9_checkFromIndexSize_0 4 rfl rfl)
theorem dJ9_checkFromIndexSize_5 : decode cJ9_checkFromIndexSize 5 = .ok (.ifCond .lt 10, 3) := dk_155 0 10 (dk_at dksJ9_checkFromIndexSize_0 5 rfl rfl)
theorem dJ9_checkFromIndexSize_8 : decode cJ9_checkFromIndexSize 8 = .ok (.iload_n 1, 1) := dk_27 (dk_at dksJ9_checkFromIndexSize_0 8 rfl rfl)
theorem dJ9_checkFromIndexSize_9 : decode cJ9_checkFromIndexSize 9 = .ok (.iload_n 2, 1) := dk_28 (dk_at dksJ9_checkFromIndexSize_0 9 rfl rfl)
theorem dJ9_checkFromIndexSize_10 : decode cJ9_checkFromIndexSize 10 = .ok (.iload_n 0, 1) := dk_26 (dk_at dksJ9_checkFromIndexSize_0 10 rfl rfl)
theorem dJ9_checkFromIndexSize_11 : decode cJ9_checkFromIndexSize 11 = .ok (.isub, 1) := dk_100 (dk_at dksJ9_checkFromIndexSize_0 11 rfl rfl)
theorem dJ9_checkFromIndexSize_12 : decode cJ9_checkFromIndexSize 12 = .ok (.if_icmp .le 11, 3) := dk_164 0 11 (dk_at dksJ9_checkFromIndexSize_0 12 rfl rfl)
theorem dJ9_checkFromIndexSize_15 : decode cJ9_checkFromIndexSize 15 = .ok (.aload_n 3, 1) := dk_45 (dk_at dksJ9_checkFromIndexSize_0 15 rfl rfl)
theorem dJ9_checkFromIndexSize_16 : decode cJ9_checkFromIndexSize 16 = .ok (.iload_n 0, 1) := dk_26 (dk_at dksJ9_checkFromIndexSize_0 16 rfl rfl)
theorem dJ9_checkFromIndexSize_17 : decode cJ9_checkFromIndexSize 17 = .ok (.iload_n 1, 1) := dk_27 (dk_at dksJ9_checkFromIndexSize_0 17 rfl rfl)
theorem dJ9_checkFromIndexSize_18 : decode cJ9_checkFromIndexSize 18 = .ok (.iload_n 2, 1) := dk_28 (dk_at dksJ9_checkFromIndexSize_0 18 rfl rfl)
theorem dJ9_checkFromIndexSize_19 : decode cJ9_checkFromIndexSize 19 = .ok (.invokestatic 103, 3) := dk_184 0 103 (dk_at dksJ9_checkFromIndexSize_0 19 rfl rfl)
theorem dJ9_checkFromIndexSize_22 : decode cJ9_checkFromIndexSize 22 = .ok (.athrow, 1) := dk_191 (dk_at dksJ9_checkFromIndexSize_0 22 rfl rfl)
theorem dJ9_checkFromIndexSize_23 : decode cJ9_checkFromIndexSize 23 = .ok (.iload_n 0, 1) := dk_26 (dk_at dksJ9_checkFromIndexSize_0 23 rfl rfl)
theorem dJ9_checkFromIndexSize_24 : decode cJ9_checkFromIndexSize 24 = .ok (.ireturn, 1) := dk_172 (dk_at dksJ9_checkFromIndexSize_1 0 rfl rfl)
theorem q130 : (Jvm.Cond.initialized "jdk/internal/util/Preconditions") ∈ lw_all := lw_g (lw_at lw_m1 15 rfl) rfl
theorem q330 : (Jvm.Cond.laysStatic "jdk/internal/util/Preconditions" "SIOOBE_FORMATTER" "Ljava/util/function/BiFunction;") ∈ lw_tbl := lw_at lw_m1 215 rfl
theorem q332 : (Jvm.Cond.static ({ cls := "jdk/internal/util/Preconditions", name := "checkIndex", desc := "(IILjava/util/function/BiFunction;)I" } : Jvm.MethodName)) ∈ lw_all := lw_g (lw_at lw_m1 217 rfl) rfl
theorem q333 : (Jvm.Cond.code ({ cls := "jdk/internal/util/Preconditions", name := "checkIndex", desc := "(IILjava/util/function/BiFunction;)I" } : Jvm.MethodName) prog_57_method_11_code (3 : Nat) (Option.some Jvm.ClassFile.FieldType.int)) ∈ lw_all := lw_g (lw_at lw_m1 218 rfl) rfl
theorem q362 : (Jvm.Cond.static ({ cls := "jdk/internal/util/Preconditions", name := "checkFromToIndex", desc := "(IIILjava/util/function/BiFunction;)I" } : Jvm.MethodName)) ∈ lw_all := lw_g (lw_at lw_m2 7 rfl) rfl
theorem q363 : (Jvm.Cond.code ({ cls := "jdk/internal/util/Preconditions", name := "checkFromToIndex", desc := "(IIILjava/util/function/BiFunction;)I" } : Jvm.MethodName) prog_57_method_12_code (4 : Nat) (Option.some Jvm.ClassFile.FieldType.int)) ∈ lw_all := lw_g (lw_at lw_m2 8 rfl) rfl
theorem q540 : (Jvm.Cond.static ({ cls := "jdk/internal/util/Preconditions", name := "checkFromIndexSize", desc := "(IIILjava/util/function/BiFunction;)I" } : Jvm.MethodName)) ∈ lw_all := lw_g (lw_at lw_m2 185 rfl) rfl
theorem q541 : (Jvm.Cond.code ({ cls := "jdk/internal/util/Preconditions", name := "checkFromIndexSize", desc := "(IIILjava/util/function/BiFunction;)I" } : Jvm.MethodName) prog_57_method_13_code (4 : Nat) (Option.some Jvm.ClassFile.FieldType.int)) ∈ lw_all := lw_g (lw_at lw_m2 186 rfl) rfl

/-! java/util/Arrays -/
set_option maxRecDepth 100000
def RJ10 : String := "java/util/Arrays"
abbrev cJ10_copyOfRange : ByteArray := prog_45_method_132_code
def yJ10_copyOfRange : MethodName := ⟨RJ10, "copyOfRange", "([BII)[B"⟩
def dkwJ10_copyOfRange_1 : List UInt8 := [176]
abbrev dktJ10_copyOfRange_1 : List UInt8 := dkwJ10_copyOfRange_1 ++ []
def dkwJ10_copyOfRange_0 : List UInt8 := [27, 154, 0, 9, 28, 42, 190, 159, 0, 10, 42, 27, 28, 184, 1, 83, 176, 42, 182, 1, 54, 192, 1, 55]
abbrev dktJ10_copyOfRange_0 : List UInt8 := dkwJ10_copyOfRange_0 ++ dktJ10_copyOfRange_1
theorem dksJ10_copyOfRange_0 : cJ10_copyOfRange.data.toList.drop 0 = dktJ10_copyOfRange_0 := by decide +kernel
theorem dksJ10_copyOfRange_1 : cJ10_copyOfRange.data.toList.drop 24 = dktJ10_copyOfRange_1 := dk_seg dksJ10_copyOfRange_0 24 rfl rfl
theorem dJ10_copyOfRange_0 : decode cJ10_copyOfRange 0 = .ok (.iload_n 1, 1) := dk_27 (dk_at dksJ10_copyOfRange_0 0 rfl rfl)
theorem dJ10_copyOfRange_1 : decode cJ10_copyOfRange 1 = .ok (.ifCond .ne 9, 3) := dk_154 0 9 (dk_at dksJ10_copyOfRange_0 1 rfl rfl)
theorem dJ10_copyOfRange_4 : decode cJ10_copyOfRange 4 = .ok (.iload_n 2, 1) := dk_28 (dk_at dksJ10_copyOfRange_0 4 rfl rfl)
theorem dJ10_copyOfRange_5 : decode cJ10_copyOfRange 5 = .ok (.aload_n 0, 1) := dk_42 (dk_at dksJ10_copyOfRange_0 5 rfl rfl)
theorem dJ10_copyOfRange_6 : decode cJ10_copyOfRange 6 = .ok (.arraylength, 1) := dk_190 (dk_at dksJ10_copyOfRange_0 6 rfl rfl)
theorem dJ10_copyOfRange_7 : decode cJ10_copyOfRange 7 = .ok (.if_icmp .eq 10, 3) := dk_159 0 10 (dk_at dksJ10_copyOfRange_0 7 rfl rfl)
theorem dJ10_copyOfRange_10 : decode cJ10_copyOfRange 10 = .ok (.aload_n 0, 1) := dk_42 (dk_at dksJ10_copyOfRange_0 10 rfl rfl)
theorem dJ10_copyOfRange_11 : decode cJ10_copyOfRange 11 = .ok (.iload_n 1, 1) := dk_27 (dk_at dksJ10_copyOfRange_0 11 rfl rfl)
theorem dJ10_copyOfRange_12 : decode cJ10_copyOfRange 12 = .ok (.iload_n 2, 1) := dk_28 (dk_at dksJ10_copyOfRange_0 12 rfl rfl)
theorem dJ10_copyOfRange_13 : decode cJ10_copyOfRange 13 = .ok (.invokestatic 339, 3) := dk_184 1 83 (dk_at dksJ10_copyOfRange_0 13 rfl rfl)
theorem dJ10_copyOfRange_16 : decode cJ10_copyOfRange 16 = .ok (.areturn, 1) := dk_176 (dk_at dksJ10_copyOfRange_0 16 rfl rfl)
theorem dJ10_copyOfRange_17 : decode cJ10_copyOfRange 17 = .ok (.aload_n 0, 1) := dk_42 (dk_at dksJ10_copyOfRange_0 17 rfl rfl)
theorem dJ10_copyOfRange_18 : decode cJ10_copyOfRange 18 = .ok (.invokevirtual 310, 3) := dk_182 1 54 (dk_at dksJ10_copyOfRange_0 18 rfl rfl)
theorem dJ10_copyOfRange_21 : decode cJ10_copyOfRange 21 = .ok (.checkcast 311, 3) := dk_192 1 55 (dk_at dksJ10_copyOfRange_0 21 rfl rfl)
theorem dJ10_copyOfRange_24 : decode cJ10_copyOfRange 24 = .ok (.areturn, 1) := dk_176 (dk_at dksJ10_copyOfRange_1 0 rfl rfl)
abbrev cJ10_copyOfRangeByte : ByteArray := prog_45_method_133_code
def yJ10_copyOfRangeByte : MethodName := ⟨RJ10, "copyOfRangeByte", "([BII)[B"⟩
def dkwJ10_copyOfRangeByte_1 : List UInt8 := [184, 1, 48, 184, 0, 150, 25, 4, 176]
abbrev dktJ10_copyOfRangeByte_1 : List UInt8 := dkwJ10_copyOfRangeByte_1 ++ []
def dkwJ10_copyOfRangeByte_0 : List UInt8 := [27, 28, 184, 1, 87, 28, 27, 100, 62, 29, 188, 8, 58, 4, 42, 27, 25, 4, 3, 42, 190, 27, 100, 29]
abbrev dktJ10_copyOfRangeByte_0 : List UInt8 := dkwJ10_copyOfRangeByte_0 ++ dktJ10_copyOfRangeByte_1
theorem dksJ10_copyOfRangeByte_0 : cJ10_copyOfRangeByte.data.toList.drop 0 = dktJ10_copyOfRangeByte_0 := by decide +kernel
theorem dksJ10_copyOfRangeByte_1 : cJ10_copyOfRangeByte.data.toList.drop 24 = dktJ10_copyOfRangeByte_1 := dk_seg dksJ10_copyOfRangeByte_0 24 rfl rfl
theorem dJ10_copyOfRangeByte_0 : decode cJ10_copyOfRangeByte 0 = .ok (.iload_n 1, 1) := dk_27 (dk_at dksJ10_copyOfRangeByte_0 0 rfl rfl)
theorem dJ10_copyOfRangeByte_1 : decode cJ10_copyOfRangeByte 1 = .ok (.iload_n 2, 1) := dk_28 (dk_at dksJ10_copyOfRangeByte_0 1 rfl rfl)
theorem dJ10_copyOfRangeByte_2 : decode cJ10_copyOfRangeByte 2 = .ok (.invokestatic 343, 3) := dk_184 1 87 (dk_at dksJ10_copyOfRangeByte_0 2 rfl rfl)
theorem dJ10_copyOfRangeByte_5 : decode cJ10_copyOfRangeByte 5 = .ok (.iload_n 2, 1) := dk_28 (dk_at dksJ10_copyOfRangeByte_0 5 rfl rfl)
theorem dJ10_copyOfRangeByte_6 : decode cJ10_copyOfRangeByte 6 = .ok (.iload_n 1, 1) := dk_27 (dk_at dksJ10_copyOfRangeByte_0 6 rfl rfl)
theorem dJ10_copyOfRangeByte_7 : decode cJ10_copyOfRangeByte 7 = .ok (.isub, 1) := dk_100 (dk_at dksJ10_copyOfRangeByte_0 7 rfl rfl)
theorem dJ10_copyOfRangeByte_8 : decode cJ10_copyOfRangeByte 8 = .ok (.istore_n 3, 1) := dk_62 (dk_at dksJ10_copyOfRangeByte_0 8 rfl rfl)
theorem dJ10_copyOfRangeByte_9 : decode cJ10_copyOfRangeByte 9 = .ok (.iload_n 3, 1) := dk_29 (dk_at dksJ10_copyOfRangeByte_0 9 rfl rfl)
theorem dJ10_copyOfRangeByte_10 : decode cJ10_copyOfRangeByte 10 = .ok (.newarray .byte, 2) := dk_188_8 (dk_at dksJ10_copyOfRangeByte_0 10 rfl rfl)
theorem dJ10_copyOfRangeByte_12 : decode cJ10_copyOfRangeByte 12 = .ok (.astore 4, 2) := dk_58 4 (dk_at dksJ10_copyOfRangeByte_0 12 rfl rfl)
theorem dJ10_copyOfRangeByte_14 : decode cJ10_copyOfRangeByte 14 = .ok (.aload_n 0, 1) := dk_42 (dk_at dksJ10_copyOfRangeByte_0 14 rfl rfl)
theorem dJ10_copyOfRangeByte_15 : decode cJ10_copyOfRangeByte 15 = .ok (.iload_n 1, 1) := dk_27 (dk_at dksJ10_copyOfRangeByte_0 15 rfl rfl)
theorem dJ10_copyOfRangeByte_16 : decode cJ10_copyOfRangeByte 16 = .ok (.aload 4, 2) := dk_25 4 (dk_at dksJ10_copyOfRangeByte_0 16 rfl rfl)
theorem dJ10_copyOfRangeByte_18 : decode cJ10_copyOfRangeByte 18 = .ok (.iconst 0, 1) := dk_3 (dk_at dksJ10_copyOfRangeByte_0 18 rfl rfl)
theorem dJ10_copyOfRangeByte_19 : decode cJ10_copyOfRangeByte 19 = .ok (.aload_n 0, 1) := dk_42 (dk_at dksJ10_copyOfRangeByte_0 19 rfl rfl)
theorem dJ10_copyOfRangeByte_20 : decode cJ10_copyOfRangeByte 20 = .ok (.arraylength, 1) := dk_190 (dk_at dksJ10_copyOfRangeByte_0 20 rfl rfl)
theorem dJ10_copyOfRangeByte_21 : decode cJ10_copyOfRangeByte 21 = .ok (.iload_n 1, 1) := dk_27 (dk_at dksJ10_copyOfRangeByte_0 21 rfl rfl)
theorem dJ10_copyOfRangeByte_22 : decode cJ10_copyOfRangeByte 22 = .ok (.isub, 1) := dk_100 (dk_at dksJ10_copyOfRangeByte_0 22 rfl rfl)
theorem dJ10_copyOfRangeByte_23 : decode cJ10_copyOfRangeByte 23 = .ok (.iload_n 3, 1) := dk_29 (dk_at dksJ10_copyOfRangeByte_0 23 rfl rfl)
theorem dJ10_copyOfRangeByte_24 : decode cJ10_copyOfRangeByte 24 = .ok (.invokestatic 304, 3) := dk_184 1 48 (dk_at dksJ10_copyOfRangeByte_1 0 rfl rfl)
theorem dJ10_copyOfRangeByte_27 : decode cJ10_copyOfRangeByte 27 = .ok (.invokestatic 150, 3) := dk_184 0 150 (dk_at dksJ10_copyOfRangeByte_1 3 rfl rfl)
theorem dJ10_copyOfRangeByte_30 : decode cJ10_copyOfRangeByte 30 = .ok (.aload 4, 2) := dk_25 4 (dk_at dksJ10_copyOfRangeByte_1 6 rfl rfl)
theorem dJ10_copyOfRangeByte_32 : decode cJ10_copyOfRangeByte 32 = .ok (.areturn, 1) := dk_176 (dk_at dksJ10_copyOfRangeByte_1 8 rfl rfl)
abbrev cJ10_checkLength : ByteArray := prog_45_method_131_code
def yJ10_checkLength : MethodName := ⟨RJ10, "checkLength", "(II)V"⟩
def dkwJ10_checkLength_1 : List UInt8 := [182, 0, 50, 27, 182, 0, 54, 182, 0, 61, 183, 0, 65, 191, 177]
abbrev dktJ10_checkLength_1 : List UInt8 := dkwJ10_checkLength_1 ++ []
def dkwJ10_checkLength_0 : List UInt8 := [27, 26, 162, 0, 35, 187, 0, 43, 89, 187, 0, 45, 89, 183, 0, 47, 26, 182, 0, 54, 19, 1, 81]
abbrev dktJ10_checkLength_0 : List UInt8 := dkwJ10_checkLength_0 ++ dktJ10_checkLength_1
theorem dksJ10_checkLength_0 : cJ10_checkLength.data.toList.drop 0 = dktJ10_checkLength_0 := by decide +kernel
theorem dksJ10_checkLength_1 : cJ10_checkLength.data.toList.drop 23 = dktJ10_checkLength_1 := dk_seg dksJ10_checkLength_0 23 rfl rfl
theorem dJ10_checkLength_0 : decode cJ10_checkLength 0 = .ok (.iload_n 1, 1) := dk_27 (dk_at dksJ10_checkLength_0 0 rfl rfl)
theorem dJ10_checkLength_1 : decode cJ10_checkLength 1 = .ok (.iload_n 0, 1) := dk_26 (dk_at dksJ10_checkLength_0 1 rfl rfl)
theorem dJ10_checkLength_2 : decode cJ10_checkLength 2 = .ok (.if_icmp .ge 35, 3) := dk_162 0 35 (dk_at dksJ10_checkLength_0 2 rfl rfl)
theorem dJ10_checkLength_5 : decode cJ10_checkLength 5 = .ok (.new 43, 3) := dk_187 0 43 (dk_at dksJ10_checkLength_0 5 rfl rfl)
theorem dJ10_checkLength_8 : decode cJ10_checkLength 8 = .ok (.dup, 1) := dk_89 (dk_at dksJ10_checkLength_0 8 rfl rfl)
theorem dJ10_checkLength_9 : decode cJ10_checkLength 9 = .ok (.new 45, 3) := dk_187 0 45 (dk_at dksJ10_checkLength_0 9 rfl rfl)
theorem dJ10_checkLength_12 : decode cJ10_checkLength 12 = .ok (.dup, 1) := dk_89 (dk_at dksJ10_checkLength_0 12 rfl rfl)
theorem dJ10_checkLength_13 : decode cJ10_checkLength 13 = .ok (.invokespecial 47, 3) := dk_183 0 47 (dk_at dksJ10_checkLength_0 13 rfl rfl)
theorem dJ10_checkLength_16 : decode cJ10_checkLength 16 = .ok (.iload_n 0, 1) := dk_26 (dk_at dksJ10_checkLength_0 16 rfl rfl)
theorem dJ10_checkLength_17 : decode cJ10_checkLength 17 = .ok (.invokevirtual 54, 3) := dk_182 0 54 (dk_at dksJ10_checkLength_0 17 rfl rfl)
theorem dJ10_checkLength_20 : decode cJ10_checkLength 20 = .ok (.ldc_w 337, 3) := dk_19 1 81 (dk_at dksJ10_checkLength_0 20 rfl rfl)
theorem dJ10_checkLength_23 : decode cJ10_checkLength 23 = .ok (.invokevirtual 50, 3) := dk_182 0 50 (dk_at dksJ10_checkLength_1 0 rfl rfl)
theorem dJ10_checkLength_26 : decode cJ10_checkLength 26 = .ok (.iload_n 1, 1) := dk_27 (dk_at dksJ10_checkLength_1 3 rfl rfl)
theorem dJ10_checkLength_27 : decode cJ10_checkLength 27 = .ok (.invokevirtual 54, 3) := dk_182 0 54 (dk_at dksJ10_checkLength_1 4 rfl rfl)
theorem dJ10_checkLength_30 : decode cJ10_checkLength 30 = .ok (.invokevirtual 61, 3) := dk_182 0 61 (dk_at dksJ10_checkLength_1 7 rfl rfl)
theorem dJ10_checkLength_33 : decode cJ10_checkLength 33 = .ok (.invokespecial 65, 3) := dk_183 0 65 (dk_at dksJ10_checkLength_1 10 rfl rfl)
theorem dJ10_checkLength_36 : decode cJ10_checkLength 36 = .ok (.athrow, 1) := dk_191 (dk_at dksJ10_checkLength_1 13 rfl rfl)
theorem dJ10_checkLength_37 : decode cJ10_checkLength 37 = .ok (.return_, 1) := dk_177 (dk_at dksJ10_checkLength_1 14 rfl rfl)
abbrev cJ10_copyOf : ByteArray := prog_45_method_121_code
def yJ10_copyOf : MethodName := ⟨RJ10, "copyOf", "([BI)[B"⟩
def dkwJ10_copyOf_1 : List UInt8 := [27, 184, 1, 48, 184, 0, 150, 44, 176]
abbrev dktJ10_copyOf_1 : List UInt8 := dkwJ10_copyOf_1 ++ []
def dkwJ10_copyOf_0 : List UInt8 := [27, 42, 190, 160, 0, 11, 42, 182, 1, 54, 192, 1, 55, 176, 27, 188, 8, 77, 42, 3, 44, 3, 42, 190]
abbrev dktJ10_copyOf_0 : List UInt8 := dkwJ10_copyOf_0 ++ dktJ10_copyOf_1
theorem dksJ10_copyOf_0 : cJ10_copyOf.data.toList.drop 0 = dktJ10_copyOf_0 := by decide +kernel
theorem dksJ10_copyOf_1 : cJ10_copyOf.data.toList.drop 24 = dktJ10_copyOf_1 := dk_seg dksJ10_copyOf_0 24 rfl rfl
theorem dJ10_copyOf_0 : decode cJ10_copyOf 0 = .ok (.iload_n 1, 1) := dk_27 (dk_at dksJ10_copyOf_0 0 rfl rfl)
theorem dJ10_copyOf_1 : decode cJ10_copyOf 1 = .ok (.aload_n 0, 1) := dk_42 (dk_at dksJ10_copyOf_0 1 rfl rfl)
theorem dJ10_copyOf_2 : decode cJ10_copyOf 2 = .ok (.arraylength, 1) := dk_190 (dk_at dksJ10_copyOf_0 2 rfl rfl)
theorem dJ10_copyOf_3 : decode cJ10_copyOf 3 = .ok (.if_icmp .ne 11, 3) := dk_160 0 11 (dk_at dksJ10_copyOf_0 3 rfl rfl)
theorem dJ10_copyOf_6 : decode cJ10_copyOf 6 = .ok (.aload_n 0, 1) := dk_42 (dk_at dksJ10_copyOf_0 6 rfl rfl)
theorem dJ10_copyOf_7 : decode cJ10_copyOf 7 = .ok (.invokevirtual 310, 3) := dk_182 1 54 (dk_at dksJ10_copyOf_0 7 rfl rfl)
theorem dJ10_copyOf_10 : decode cJ10_copyOf 10 = .ok (.checkcast 311, 3) := dk_192 1 55 (dk_at dksJ10_copyOf_0 10 rfl rfl)
theorem dJ10_copyOf_13 : decode cJ10_copyOf 13 = .ok (.areturn, 1) := dk_176 (dk_at dksJ10_copyOf_0 13 rfl rfl)
theorem dJ10_copyOf_14 : decode cJ10_copyOf 14 = .ok (.iload_n 1, 1) := dk_27 (dk_at dksJ10_copyOf_0 14 rfl rfl)
theorem dJ10_copyOf_15 : decode cJ10_copyOf 15 = .ok (.newarray .byte, 2) := dk_188_8 (dk_at dksJ10_copyOf_0 15 rfl rfl)
theorem dJ10_copyOf_17 : decode cJ10_copyOf 17 = .ok (.astore_n 2, 1) := dk_77 (dk_at dksJ10_copyOf_0 17 rfl rfl)
theorem dJ10_copyOf_18 : decode cJ10_copyOf 18 = .ok (.aload_n 0, 1) := dk_42 (dk_at dksJ10_copyOf_0 18 rfl rfl)
theorem dJ10_copyOf_19 : decode cJ10_copyOf 19 = .ok (.iconst 0, 1) := dk_3 (dk_at dksJ10_copyOf_0 19 rfl rfl)
theorem dJ10_copyOf_20 : decode cJ10_copyOf 20 = .ok (.aload_n 2, 1) := dk_44 (dk_at dksJ10_copyOf_0 20 rfl rfl)
theorem dJ10_copyOf_21 : decode cJ10_copyOf 21 = .ok (.iconst 0, 1) := dk_3 (dk_at dksJ10_copyOf_0 21 rfl rfl)
theorem dJ10_copyOf_22 : decode cJ10_copyOf 22 = .ok (.aload_n 0, 1) := dk_42 (dk_at dksJ10_copyOf_0 22 rfl rfl)
theorem dJ10_copyOf_23 : decode cJ10_copyOf 23 = .ok (.arraylength, 1) := dk_190 (dk_at dksJ10_copyOf_0 23 rfl rfl)
theorem dJ10_copyOf_24 : decode cJ10_copyOf 24 = .ok (.iload_n 1, 1) := dk_27 (dk_at dksJ10_copyOf_1 0 rfl rfl)
theorem dJ10_copyOf_25 : decode cJ10_copyOf 25 = .ok (.invokestatic 304, 3) := dk_184 1 48 (dk_at dksJ10_copyOf_1 1 rfl rfl)
theorem dJ10_copyOf_28 : decode cJ10_copyOf 28 = .ok (.invokestatic 150, 3) := dk_184 0 150 (dk_at dksJ10_copyOf_1 4 rfl rfl)
theorem dJ10_copyOf_31 : decode cJ10_copyOf 31 = .ok (.aload_n 2, 1) := dk_44 (dk_at dksJ10_copyOf_1 7 rfl rfl)
theorem dJ10_copyOf_32 : decode cJ10_copyOf 32 = .ok (.areturn, 1) := dk_176 (dk_at dksJ10_copyOf_1 8 rfl rfl)
abbrev cJ10_copyOf_2 : ByteArray := prog_45_method_119_code
def yJ10_copyOf_2 : MethodName := ⟨RJ10, "copyOf", "([Ljava/lang/Object;I)[Ljava/lang/Object;"⟩
def dkwJ10_copyOf_2_0 : List UInt8 := [42, 27, 42, 182, 0, 86, 184, 1, 44, 176]
abbrev dktJ10_copyOf_2_0 : List UInt8 := dkwJ10_copyOf_2_0 ++ []
theorem dksJ10_copyOf_2_0 : cJ10_copyOf_2.data.toList.drop 0 = dktJ10_copyOf_2_0 := by decide +kernel
theorem dJ10_copyOf_2_0 : decode cJ10_copyOf_2 0 = .ok (.aload_n 0, 1) := dk_42 (dk_at dksJ10_copyOf_2_0 0 rfl rfl)
theorem dJ10_copyOf_2_1 : decode cJ10_copyOf_2 1 = .ok (.iload_n 1, 1) := dk_27 (dk_at dksJ10_copyOf_2_0 1 rfl rfl)
theorem dJ10_copyOf_2_2 : decode cJ10_copyOf_2 2 = .ok (.aload_n 0, 1) := dk_42 (dk_at dksJ10_copyOf_2_0 2 rfl rfl)
theorem dJ10_copyOf_2_3 : decode cJ10_copyOf_2 3 = .ok (.invokevirtual 86, 3) := dk_182 0 86 (dk_at dksJ10_copyOf_2_0 3 rfl rfl)
theorem dJ10_copyOf_2_6 : decode cJ10_copyOf_2 6 = .ok (.invokestatic 300, 3) := dk_184 1 44 (dk_at dksJ10_copyOf_2_0 6 rfl rfl)
theorem dJ10_copyOf_2_9 : decode cJ10_copyOf_2 9 = .ok (.areturn, 1) := dk_176 (dk_at dksJ10_copyOf_2_0 9 rfl rfl)
abbrev cJ10_copyOf_3 : ByteArray := prog_45_method_120_code
def yJ10_copyOf_3 : MethodName := ⟨RJ10, "copyOf", "([Ljava/lang/Object;ILjava/lang/Class;)[Ljava/lang/Object;"⟩
def dkwJ10_copyOf_3_1 : List UInt8 := [78, 42, 3, 45, 3, 42, 190, 27, 184, 1, 48, 184, 0, 150, 45, 176]
abbrev dktJ10_copyOf_3_1 : List UInt8 := dkwJ10_copyOf_3_1 ++ []
def dkwJ10_copyOf_3_0 : List UInt8 := [44, 18, 110, 166, 0, 10, 27, 189, 0, 2, 167, 0, 14, 44, 182, 0, 90, 27, 184, 0, 95, 192, 0, 110]
abbrev dktJ10_copyOf_3_0 : List UInt8 := dkwJ10_copyOf_3_0 ++ dktJ10_copyOf_3_1
theorem dksJ10_copyOf_3_0 : cJ10_copyOf_3.data.toList.drop 0 = dktJ10_copyOf_3_0 := by decide +kernel
theorem dksJ10_copyOf_3_1 : cJ10_copyOf_3.data.toList.drop 24 = dktJ10_copyOf_3_1 := dk_seg dksJ10_copyOf_3_0 24 rfl rfl
theorem dJ10_copyOf_3_0 : decode cJ10_copyOf_3 0 = .ok (.aload_n 2, 1) := dk_44 (dk_at dksJ10_copyOf_3_0 0 rfl rfl)
theorem dJ10_copyOf_3_1 : decode cJ10_copyOf_3 1 = .ok (.ldc 110, 2) := dk_18 110 (dk_at dksJ10_copyOf_3_0 1 rfl rfl)
theorem dJ10_copyOf_3_3 : decode cJ10_copyOf_3 3 = .ok (.if_acmp .ne 10, 3) := dk_166 0 10 (dk_at dksJ10_copyOf_3_0 3 rfl rfl)
theorem dJ10_copyOf_3_6 : decode cJ10_copyOf_3 6 = .ok (.iload_n 1, 1) := dk_27 (dk_at dksJ10_copyOf_3_0 6 rfl rfl)
theorem dJ10_copyOf_3_7 : decode cJ10_copyOf_3 7 = .ok (.anewarray 2, 3) := dk_189 0 2 (dk_at dksJ10_copyOf_3_0 7 rfl rfl)
theorem dJ10_copyOf_3_10 : decode cJ10_copyOf_3 10 = .ok (.goto 14, 3) := dk_167 0 14 (dk_at dksJ10_copyOf_3_0 10 rfl rfl)
theorem dJ10_copyOf_3_13 : decode cJ10_copyOf_3 13 = .ok (.aload_n 2, 1) := dk_44 (dk_at dksJ10_copyOf_3_0 13 rfl rfl)
theorem dJ10_copyOf_3_14 : decode cJ10_copyOf_3 14 = .ok (.invokevirtual 90, 3) := dk_182 0 90 (dk_at dksJ10_copyOf_3_0 14 rfl rfl)
theorem dJ10_copyOf_3_17 : decode cJ10_copyOf_3 17 = .ok (.iload_n 1, 1) := dk_27 (dk_at dksJ10_copyOf_3_0 17 rfl rfl)
theorem dJ10_copyOf_3_18 : decode cJ10_copyOf_3 18 = .ok (.invokestatic 95, 3) := dk_184 0 95 (dk_at dksJ10_copyOf_3_0 18 rfl rfl)
theorem dJ10_copyOf_3_21 : decode cJ10_copyOf_3 21 = .ok (.checkcast 110, 3) := dk_192 0 110 (dk_at dksJ10_copyOf_3_0 21 rfl rfl)
theorem dJ10_copyOf_3_24 : decode cJ10_copyOf_3 24 = .ok (.astore_n 3, 1) := dk_78 (dk_at dksJ10_copyOf_3_1 0 rfl rfl)
theorem dJ10_copyOf_3_25 : decode cJ10_copyOf_3 25 = .ok (.aload_n 0, 1) := dk_42 (dk_at dksJ10_copyOf_3_1 1 rfl rfl)
theorem dJ10_copyOf_3_26 : decode cJ10_copyOf_3 26 = .ok (.iconst 0, 1) := dk_3 (dk_at dksJ10_copyOf_3_1 2 rfl rfl)
theorem dJ10_copyOf_3_27 : decode cJ10_copyOf_3 27 = .ok (.aload_n 3, 1) := dk_45 (dk_at dksJ10_copyOf_3_1 3 rfl rfl)
theorem dJ10_copyOf_3_28 : decode cJ10_copyOf_3 28 = .ok (.iconst 0, 1) := dk_3 (dk_at dksJ10_copyOf_3_1 4 rfl rfl)
theorem dJ10_copyOf_3_29 : decode cJ10_copyOf_3 29 = .ok (.aload_n 0, 1) := dk_42 (dk_at dksJ10_copyOf_3_1 5 rfl rfl)
theorem dJ10_copyOf_3_30 : decode cJ10_copyOf_3 30 = .ok (.arraylength, 1) := dk_190 (dk_at dksJ10_copyOf_3_1 6 rfl rfl)
theorem dJ10_copyOf_3_31 : decode cJ10_copyOf_3 31 = .ok (.iload_n 1, 1) := dk_27 (dk_at dksJ10_copyOf_3_1 7 rfl rfl)
theorem dJ10_copyOf_3_32 : decode cJ10_copyOf_3 32 = .ok (.invokestatic 304, 3) := dk_184 1 48 (dk_at dksJ10_copyOf_3_1 8 rfl rfl)
theorem dJ10_copyOf_3_35 : decode cJ10_copyOf_3 35 = .ok (.invokestatic 150, 3) := dk_184 0 150 (dk_at dksJ10_copyOf_3_1 11 rfl rfl)
theorem dJ10_copyOf_3_38 : decode cJ10_copyOf_3 38 = .ok (.aload_n 3, 1) := dk_45 (dk_at dksJ10_copyOf_3_1 14 rfl rfl)
theorem dJ10_copyOf_3_39 : decode cJ10_copyOf_3 39 = .ok (.areturn, 1) := dk_176 (dk_at dksJ10_copyOf_3_1 15 rfl rfl)
abbrev cJ10_fill : ByteArray := prog_45_method_110_code
def yJ10_fill : MethodName := ⟨RJ10, "fill", "([BIIB)V"⟩
def dkwJ10_fill_1 : List UInt8 := [167, 255, 242, 177]
abbrev dktJ10_fill_1 : List UInt8 := dkwJ10_fill_1 ++ []
def dkwJ10_fill_0 : List UInt8 := [42, 190, 27, 28, 184, 0, 13, 27, 54, 4, 21, 4, 28, 162, 0, 14, 42, 21, 4, 29, 84, 132, 4, 1]
abbrev dktJ10_fill_0 : List UInt8 := dkwJ10_fill_0 ++ dktJ10_fill_1
theorem dksJ10_fill_0 : cJ10_fill.data.toList.drop 0 = dktJ10_fill_0 := by decide +kernel
theorem dksJ10_fill_1 : cJ10_fill.data.toList.drop 24 = dktJ10_fill_1 := dk_seg dksJ10_fill_0 24 rfl rfl
theorem dJ10_fill_0 : decode cJ10_fill 0 = .ok (.aload_n 0, 1) := dk_42 (dk_at dksJ10_fill_0 0 rfl rfl)
theorem dJ10_fill_1 : decode cJ10_fill 1 = .ok (.arraylength, 1) := dk_190 (dk_at dksJ10_fill_0 1 rfl rfl)
theorem dJ10_fill_2 : decode cJ10_fill 2 = .ok (.iload_n 1, 1) := dk_27 (dk_at dksJ10_fill_0 2 rfl rfl)
theorem dJ10_fill_3 : decode cJ10_fill 3 = .ok (.iload_n 2, 1) := dk_28 (dk_at dksJ10_fill_0 3 rfl rfl)
theorem dJ10_fill_4 : decode cJ10_fill 4 = .ok (.invokestatic 13, 3) := dk_184 0 13 (dk_at dksJ10_fill_0 4 rfl rfl)
theorem dJ10_fill_7 : decode cJ10_fill 7 = .ok (.iload_n 1, 1) := dk_27 (dk_at dksJ10_fill_0 7 rfl rfl)
theorem dJ10_fill_8 : decode cJ10_fill 8 = .ok (.istore 4, 2) := dk_54 4 (dk_at dksJ10_fill_0 8 rfl rfl)
theorem dJ10_fill_10 : decode cJ10_fill 10 = .ok (.iload 4, 2) := dk_21 4 (dk_at dksJ10_fill_0 10 rfl rfl)
theorem dJ10_fill_12 : decode cJ10_fill 12 = .ok (.iload_n 2, 1) := dk_28 (dk_at dksJ10_fill_0 12 rfl rfl)
theorem dJ10_fill_13 : decode cJ10_fill 13 = .ok (.if_icmp .ge 14, 3) := dk_162 0 14 (dk_at dksJ10_fill_0 13 rfl rfl)
theorem dJ10_fill_16 : decode cJ10_fill 16 = .ok (.aload_n 0, 1) := dk_42 (dk_at dksJ10_fill_0 16 rfl rfl)
theorem dJ10_fill_17 : decode cJ10_fill 17 = .ok (.iload 4, 2) := dk_21 4 (dk_at dksJ10_fill_0 17 rfl rfl)
theorem dJ10_fill_19 : decode cJ10_fill 19 = .ok (.iload_n 3, 1) := dk_29 (dk_at dksJ10_fill_0 19 rfl rfl)
theorem dJ10_fill_20 : decode cJ10_fill 20 = .ok (.bastore, 1) := dk_84 (dk_at dksJ10_fill_0 20 rfl rfl)
theorem dJ10_fill_21 : decode cJ10_fill 21 = .ok (.iinc 4 1, 3) := dk_132 4 1 (dk_at dksJ10_fill_0 21 rfl rfl)
theorem dJ10_fill_24 : decode cJ10_fill 24 = .ok (.goto (-14), 3) := dk_167 255 242 (dk_at dksJ10_fill_1 0 rfl rfl)
theorem dJ10_fill_27 : decode cJ10_fill 27 = .ok (.return_, 1) := dk_177 (dk_at dksJ10_fill_1 3 rfl rfl)
abbrev cJ10_rangeCheck : ByteArray := prog_45_method_30_code
def yJ10_rangeCheck : MethodName := ⟨RJ10, "rangeCheck", "(III)V"⟩
def dkwJ10_rangeCheck_3 : List UInt8 := [183, 0, 70, 191, 177]
abbrev dktJ10_rangeCheck_3 : List UInt8 := dkwJ10_rangeCheck_3 ++ []
def dkwJ10_rangeCheck_2 : List UInt8 := [27, 156, 0, 12, 187, 0, 68, 89, 27, 183, 0, 70, 191, 28, 26, 164, 0, 12, 187, 0, 68, 89, 28]
abbrev dktJ10_rangeCheck_2 : List UInt8 := dkwJ10_rangeCheck_2 ++ dktJ10_rangeCheck_3
def dkwJ10_rangeCheck_1 : List UInt8 := [182, 0, 54, 18, 57, 182, 0, 50, 28, 182, 0, 54, 18, 59, 182, 0, 50, 182, 0, 61, 183, 0, 65, 191]
abbrev dktJ10_rangeCheck_1 : List UInt8 := dkwJ10_rangeCheck_1 ++ dktJ10_rangeCheck_2
def dkwJ10_rangeCheck_0 : List UInt8 := [27, 28, 164, 0, 44, 187, 0, 43, 89, 187, 0, 45, 89, 183, 0, 47, 18, 48, 182, 0, 50, 27]
abbrev dktJ10_rangeCheck_0 : List UInt8 := dkwJ10_rangeCheck_0 ++ dktJ10_rangeCheck_1
theorem dksJ10_rangeCheck_0 : cJ10_rangeCheck.data.toList.drop 0 = dktJ10_rangeCheck_0 := by decide +kernel
theorem dksJ10_rangeCheck_1 : cJ10_rangeCheck.data.toList.drop 22 = dktJ10_rangeCheck_1 := dk_seg dksJ10_rangeCheck_0 22 rfl rfl
theorem dksJ10_rangeCheck_2 : cJ10_rangeCheck.data.toList.drop 46 = dktJ10_rangeCheck_2 := dk_seg dksJ10_rangeCheck_1 24 rfl rfl
theorem dksJ10_rangeCheck_3 : cJ10_rangeCheck.data.toList.drop 69 = dktJ10_rangeCheck_3 := dk_seg dksJ10_rangeCheck_2 23 rfl rfl
theorem dJ10_rangeCheck_0 : decode cJ10_rangeCheck 0 = .ok (.iload_n 1, 1) := dk_27 (dk_at dksJ10_rangeCheck_0 0 rfl rfl)
theorem dJ10_rangeCheck_1 : decode cJ10_rangeCheck 1 = .ok (.iload_n 2, 1) := dk_28 (dk_at dksJ10_rangeCheck_0 1 rfl rfl)
theorem dJ10_rangeCheck_2 : decode cJ10_rangeCheck 2 = .ok (.if_icmp .le 44, 3) := dk_164 0 44 (dk_at dksJ10_rangeCheck_0 2 rfl rfl)
theorem dJ10_rangeCheck_5 : decode cJ10_rangeCheck 5 = .ok (.new 43, 3) := dk_187 0 43 (dk_at dksJ10_rangeCheck_0 5 rfl rfl)
theorem dJ10_rangeCheck_8 : decode cJ10_rangeCheck 8 = .ok (.dup, 1) := dk_89 (dk_at dksJ10_rangeCheck_0 8 rfl rfl)
theorem dJ10_rangeCheck_9 : decode cJ10_rangeCheck 9 = .ok (.new 45, 3) := dk_187 0 45 (dk_at dksJ10_rangeCheck_0 9 rfl rfl)
theorem dJ10_rangeCheck_12 : decode cJ10_rangeCheck 12 = .ok (.dup, 1) := dk_89 (dk_at dksJ10_rangeCheck_0 12 rfl rfl)
theorem dJ10_rangeCheck_13 : decode cJ10_rangeCheck 13 = .ok (.invokespecial 47, 3) := dk_183 0 47 (dk_at dksJ10_rangeCheck_0 13 rfl rfl)
theorem dJ10_rangeCheck_16 : decode cJ10_rangeCheck 16 = .ok (.ldc 48, 2) := dk_18 48 (dk_at dksJ10_rangeCheck_0 16 rfl rfl)
theorem dJ10_rangeCheck_18 : decode cJ10_rangeCheck 18 = .ok (.invokevirtual 50, 3) := dk_182 0 50 (dk_at dksJ10_rangeCheck_0 18 rfl rfl)
theorem dJ10_rangeCheck_21 : decode cJ10_rangeCheck 21 = .ok (.iload_n 1, 1) := dk_27 (dk_at dksJ10_rangeCheck_0 21 rfl rfl)
theorem dJ10_rangeCheck_22 : decode cJ10_rangeCheck 22 = .ok (.invokevirtual 54, 3) := dk_182 0 54 (dk_at dksJ10_rangeCheck_1 0 rfl rfl)
theorem dJ10_rangeCheck_25 : decode cJ10_rangeCheck 25 = .ok (.ldc 57, 2) := dk_18 57 (dk_at dksJ10_rangeCheck_1 3 rfl rfl)
theorem dJ10_rangeCheck_27 : decode cJ10_rangeCheck 27 = .ok (.invokevirtual 50, 3) := dk_182 0 50 (dk_at dksJ10_rangeCheck_1 5 rfl rfl)
theorem dJ10_rangeCheck_30 : decode cJ10_rangeCheck 30 = .ok (.iload_n 2, 1) := dk_28 (dk_at dksJ10_rangeCheck_1 8 rfl rfl)
theorem dJ10_rangeCheck_31 : decode cJ10_rangeCheck 31 = .ok (.invokevirtual 54, 3) := dk_182 0 54 (dk_at dksJ10_rangeCheck_1 9 rfl rfl)
theorem dJ10_rangeCheck_34 : decode cJ10_rangeCheck 34 = .ok (.ldc 59, 2) := dk_18 59 (dk_at dksJ10_rangeCheck_1 12 rfl rfl)
theorem dJ10_rangeCheck_36 : decode cJ10_rangeCheck 36 = .ok (.invokevirtual 50, 3) := dk_182 0 50 (dk_at dksJ10_rangeCheck_1 14 rfl rfl)
theorem dJ10_rangeCheck_39 : decode cJ10_rangeCheck 39 = .ok (.invokevirtual 61, 3) := dk_182 0 61 (dk_at dksJ10_rangeCheck_1 17 rfl rfl)
theorem dJ10_rangeCheck_42 : decode cJ10_rangeCheck 42 = .ok (.invokespecial 65, 3) := dk_183 0 65 (dk_at dksJ10_rangeCheck_1 20 rfl rfl)
theorem dJ10_rangeCheck_45 : decode cJ10_rangeCheck 45 = .ok (.athrow, 1) := dk_191 (dk_at dksJ10_rangeCheck_1 23 rfl rfl)
theorem dJ10_rangeCheck_46 : decode cJ10_rangeCheck 46 = .ok (.iload_n 1, 1) := dk_27 (dk_at dksJ10_rangeCheck_2 0 rfl rfl)
theorem dJ10_rangeCheck_47 : decode cJ10_rangeCheck 47 = .ok (.ifCond .ge 12, 3) := dk_156 0 12 (dk_at dksJ10_rangeCheck_2 1 rfl rfl)
theorem dJ10_rangeCheck_50 : decode cJ10_rangeCheck 50 = .ok (.new 68, 3) := dk_187 0 68 (dk_at dksJ10_rangeCheck_2 4 rfl rfl)
theorem dJ10_rangeCheck_53 : decode cJ10_rangeCheck 53 = .ok (.dup, 1) := dk_89 (dk_at dksJ10_rangeCheck_2 7 rfl rfl)
theorem dJ10_rangeCheck_54 : decode cJ10_rangeCheck 54 = .ok (.iload_n 1, 1) := dk_27 (dk_at dksJ10_rangeCheck_2 8 rfl rfl)
theorem dJ10_rangeCheck_55 : decode cJ10_rangeCheck 55 = .ok (.invokespecial 70, 3) := dk_183 0 70 (dk_at dksJ10_rangeCheck_2 9 rfl rfl)
theorem dJ10_rangeCheck_58 : decode cJ10_rangeCheck 58 = .ok (.athrow, 1) := dk_191 (dk_at dksJ10_rangeCheck_2 12 rfl rfl)
theorem dJ10_rangeCheck_59 : decode cJ10_rangeCheck 59 = .ok (.iload_n 2, 1) := dk_28 (dk_at dksJ10_rangeCheck_2 13 rfl rfl)
theorem dJ10_rangeCheck_60 : decode cJ10_rangeCheck 60 = .ok (.iload_n 0, 1) := dk_26 (dk_at dksJ10_rangeCheck_2 14 rfl rfl)
theorem dJ10_rangeCheck_61 : decode cJ10_rangeCheck 61 = .ok (.if_icmp .le 12, 3) := dk_164 0 12 (dk_at dksJ10_rangeCheck_2 15 rfl rfl)
theorem dJ10_rangeCheck_64 : decode cJ10_rangeCheck 64 = .ok (.new 68, 3) := dk_187 0 68 (dk_at dksJ10_rangeCheck_2 18 rfl rfl)
theorem dJ10_rangeCheck_67 : decode cJ10_rangeCheck 67 = .ok (.dup, 1) := dk_89 (dk_at dksJ10_rangeCheck_2 21 rfl rfl)
theorem dJ10_rangeCheck_68 : decode cJ10_rangeCheck 68 = .ok (.iload_n 2, 1) := dk_28 (dk_at dksJ10_rangeCheck_2 22 rfl rfl)
theorem dJ10_rangeCheck_69 : decode cJ10_rangeCheck 69 = .ok (.invokespecial 70, 3) := dk_183 0 70 (dk_at dksJ10_rangeCheck_3 0 rfl rfl)
theorem dJ10_rangeCheck_72 : decode cJ10_rangeCheck 72 = .ok (.athrow, 1) := dk_191 (dk_at dksJ10_rangeCheck_3 3 rfl rfl)
theorem dJ10_rangeCheck_73 : decode cJ10_rangeCheck 73 = .ok (.return_, 1) := dk_177 (dk_at dksJ10_rangeCheck_3 4 rfl rfl)
theorem q131 : (Jvm.Cond.initialized "java/util/Arrays") ∈ lw_all := lw_g (lw_at lw_m1 16 rfl) rfl
theorem q371 : (Jvm.Cond.static ({ cls := "java/util/Arrays", name := "copyOfRange", desc := "([BII)[B" } : Jvm.MethodName)) ∈ lw_all := lw_g (lw_at lw_m2 16 rfl) rfl
theorem q372 : (Jvm.Cond.code ({ cls := "java/util/Arrays", name := "copyOfRange", desc := "([BII)[B" } : Jvm.MethodName) prog_45_method_132_code (3 : Nat) (Option.some (Jvm.ClassFile.FieldType.array Jvm.ClassFile.FieldType.byte))) ∈ lw_all := lw_g (lw_at lw_m2 17 rfl) rfl
theorem q373 : (Jvm.Cond.methodLink "java/util/Arrays" (339 : Nat) ({ cls := "java/util/Arrays", name := "copyOfRangeByte", desc := "([BII)[B" } : Jvm.MethodName)) ∈ lw_all := lw_g (lw_at lw_m2 18 rfl) rfl
theorem q374 : (Jvm.Cond.static ({ cls := "java/util/Arrays", name := "copyOfRangeByte", desc := "([BII)[B" } : Jvm.MethodName)) ∈ lw_all := lw_g (lw_at lw_m2 19 rfl) rfl
theorem q375 : (Jvm.Cond.code ({ cls := "java/util/Arrays", name := "copyOfRangeByte", desc := "([BII)[B" } : Jvm.MethodName) prog_45_method_133_code (5 : Nat) (Option.some (Jvm.ClassFile.FieldType.array Jvm.ClassFile.FieldType.byte))) ∈ lw_all := lw_g (lw_at lw_m2 20 rfl) rfl
theorem q376 : (Jvm.Cond.methodLink "java/util/Arrays" (343 : Nat) ({ cls := "java/util/Arrays", name := "checkLength", desc := "(II)V" } : Jvm.MethodName)) ∈ lw_all := lw_g (lw_at lw_m2 21 rfl) rfl
theorem q377 : (Jvm.Cond.static ({ cls := "java/util/Arrays", name := "checkLength", desc := "(II)V" } : Jvm.MethodName)) ∈ lw_all := lw_g (lw_at lw_m2 22 rfl) rfl
theorem q378 : (Jvm.Cond.code ({ cls := "java/util/Arrays", name := "checkLength", desc := "(II)V" } : Jvm.MethodName) prog_45_method_131_code (2 : Nat) (Option.none : Option Jvm.ClassFile.FieldType)) ∈ lw_all := lw_g (lw_at lw_m2 23 rfl) rfl
theorem q379 : (Jvm.Cond.classLink "java/util/Arrays" (43 : Nat) "java/lang/IllegalArgumentException") ∈ lw_all := lw_g (lw_at lw_m2 24 rfl) rfl
theorem q424 : (Jvm.Cond.classLink "java/util/Arrays" (45 : Nat) "java/lang/StringBuilder") ∈ lw_all := lw_g (lw_at lw_m2 69 rfl) rfl
theorem q425 : (Jvm.Cond.methodLink "java/util/Arrays" (47 : Nat) ({ cls := "java/lang/StringBuilder", name := "<init>", desc := "()V" } : Jvm.MethodName)) ∈ lw_all := lw_g (lw_at lw_m2 70 rfl) rfl
theorem q426 : (Jvm.Cond.methodLink "java/util/Arrays" (54 : Nat) ({ cls := "java/lang/StringBuilder", name := "append", desc := "(I)Ljava/lang/StringBuilder;" } : Jvm.MethodName)) ∈ lw_all := lw_g (lw_at lw_m2 71 rfl) rfl
theorem q456 : (Jvm.Cond.static ({ cls := "java/util/Arrays", name := "copyOf", desc := "([BI)[B" } : Jvm.MethodName)) ∈ lw_all := lw_g (lw_at lw_m2 101 rfl) rfl
theorem q457 : (Jvm.Cond.code ({ cls := "java/util/Arrays", name := "copyOf", desc := "([BI)[B" } : Jvm.MethodName) prog_45_method_121_code (3 : Nat) (Option.some (Jvm.ClassFile.FieldType.array Jvm.ClassFile.FieldType.byte))) ∈ lw_all := lw_g (lw_at lw_m2 102 rfl) rfl
theorem q458 : (Jvm.Cond.methodLink "java/util/Arrays" (310 : Nat) ({ cls := "[B", name := "clone", desc := "()Ljava/lang/Object;" } : Jvm.MethodName)) ∈ lw_all := lw_g (lw_at lw_m2 103 rfl) rfl
theorem q464 : (Jvm.Cond.classLink "java/util/Arrays" (311 : Nat) "[B") ∈ lw_all := lw_g (lw_at lw_m2 109 rfl) rfl
theorem q465 : (Jvm.Cond.methodLink "java/util/Arrays" (304 : Nat) ({ cls := "java/lang/Math", name := "min", desc := "(II)I" } : Jvm.MethodName)) ∈ lw_all := lw_g (lw_at lw_m2 110 rfl) rfl
theorem q468 : (Jvm.Cond.methodLink "java/util/Arrays" (150 : Nat) ({ cls := "java/lang/System", name := "arraycopy", desc := "(Ljava/lang/Object;ILjava/lang/Object;II)V" } : Jvm.MethodName)) ∈ lw_all := lw_g (lw_at lw_m2 113 rfl) rfl
theorem q498 : (Jvm.Cond.stringRef "java/util/Arrays" (337 : Nat) " > ") ∈ lw_tbl := lw_at lw_m2 143 rfl
theorem q499 : (Jvm.Cond.methodLink "java/util/Arrays" (50 : Nat) ({ cls := "java/lang/StringBuilder", name := "append", desc := "(Ljava/lang/String;)Ljava/lang/StringBuilder;" } : Jvm.MethodName)) ∈ lw_all := lw_g (lw_at lw_m2 144 rfl) rfl
theorem q548 : (Jvm.Cond.methodLink "java/util/Arrays" (61 : Nat) ({ cls := "java/lang/StringBuilder", name := "toString", desc := "()Ljava/lang/String;" } : Jvm.MethodName)) ∈ lw_all := lw_g (lw_at lw_m2 193 rfl) rfl
theorem q598 : (Jvm.Cond.methodLink "java/util/Arrays" (65 : Nat) ({ cls := "java/lang/IllegalArgumentException", name := "<init>", desc := "(Ljava/lang/String;)V" } : Jvm.MethodName)) ∈ lw_all := lw_g (lw_at lw_m3 3 rfl) rfl
theorem q869 : (Jvm.Cond.static ({ cls := "java/util/Arrays", name := "copyOf", desc := "([Ljava/lang/Object;I)[Ljava/lang/Object;" } : Jvm.MethodName)) ∈ lw_all := lw_g (lw_at lw_m4 34 rfl) rfl
theorem q870 : (Jvm.Cond.code ({ cls := "java/util/Arrays", name := "copyOf", desc := "([Ljava/lang/Object;I)[Ljava/lang/Object;" } : Jvm.MethodName) prog_45_method_119_code (2 : Nat) (Option.some (Jvm.ClassFile.FieldType.array (Jvm.ClassFile.FieldType.object "java/lang/Object")))) ∈ lw_all := lw_g (lw_at lw_m4 35 rfl) rfl
theorem q871 : (Jvm.Cond.methodLink "java/util/Arrays" (86 : Nat) ({ cls := "java/lang/Object", name := "getClass", desc := "()Ljava/lang/Class;" } : Jvm.MethodName)) ∈ lw_all := lw_g (lw_at lw_m4 36 rfl) rfl
theorem q897 : (Jvm.Cond.methodLink "java/util/Arrays" (300 : Nat) ({ cls := "java/util/Arrays", name := "copyOf", desc := "([Ljava/lang/Object;ILjava/lang/Class;)[Ljava/lang/Object;" } : Jvm.MethodName)) ∈ lw_all := lw_g (lw_at lw_m4 62 rfl) rfl
theorem q898 : (Jvm.Cond.static ({ cls := "java/util/Arrays", name := "copyOf", desc := "([Ljava/lang/Object;ILjava/lang/Class;)[Ljava/lang/Object;" } : Jvm.MethodName)) ∈ lw_all := lw_g (lw_at lw_m4 63 rfl) rfl
theorem q899 : (Jvm.Cond.code ({ cls := "java/util/Arrays", name := "copyOf", desc := "([Ljava/lang/Object;ILjava/lang/Class;)[Ljava/lang/Object;" } : Jvm.MethodName) prog_45_method_120_code (4 : Nat) (Option.some (Jvm.ClassFile.FieldType.array (Jvm.ClassFile.FieldType.object "java/lang/Object")))) ∈ lw_all := lw_g (lw_at lw_m4 64 rfl) rfl
theorem q900 : (Jvm.Cond.classLink "java/util/Arrays" (110 : Nat) "[Ljava/lang/Object;") ∈ lw_all := lw_g (lw_at lw_m4 65 rfl) rfl
theorem q901 : (Jvm.Cond.classLink "java/util/Arrays" (2 : Nat) "java/lang/Object") ∈ lw_all := lw_g (lw_at lw_m4 66 rfl) rfl
theorem q1301 : (Jvm.Cond.static ({ cls := "java/util/Arrays", name := "fill", desc := "([BIIB)V" } : Jvm.MethodName)) ∈ lw_all := lw_g (lw_at lw_m5 226 rfl) rfl
theorem q1302 : (Jvm.Cond.code ({ cls := "java/util/Arrays", name := "fill", desc := "([BIIB)V" } : Jvm.MethodName) prog_45_method_110_code (5 : Nat) (Option.none : Option Jvm.ClassFile.FieldType)) ∈ lw_all := lw_g (lw_at lw_m5 227 rfl) rfl
theorem q1303 : (Jvm.Cond.methodLink "java/util/Arrays" (13 : Nat) ({ cls := "java/util/Arrays", name := "rangeCheck", desc := "(III)V" } : Jvm.MethodName)) ∈ lw_all := lw_g (lw_at lw_m5 228 rfl) rfl
theorem q1304 : (Jvm.Cond.static ({ cls := "java/util/Arrays", name := "rangeCheck", desc := "(III)V" } : Jvm.MethodName)) ∈ lw_all := lw_g (lw_at lw_m5 229 rfl) rfl
theorem q1305 : (Jvm.Cond.code ({ cls := "java/util/Arrays", name := "rangeCheck", desc := "(III)V" } : Jvm.MethodName) prog_45_method_30_code (3 : Nat) (Option.none : Option Jvm.ClassFile.FieldType)) ∈ lw_all := lw_g (lw_at lw_m5 230 rfl) rfl
theorem q1306 : (Jvm.Cond.stringRef "java/util/Arrays" (48 : Nat) "fromIndex(") ∈ lw_tbl := lw_at lw_m5 231 rfl
theorem q1307 : (Jvm.Cond.stringRef "java/util/Arrays" (57 : Nat) ") > toIndex(") ∈ lw_tbl := lw_at lw_m5 232 rfl
theorem q1308 : (Jvm.Cond.stringRef "java/util/Arrays" (59 : Nat) ")") ∈ lw_tbl := lw_at lw_m5 233 rfl
theorem q1309 : (Jvm.Cond.classLink "java/util/Arrays" (68 : Nat) "java/lang/ArrayIndexOutOfBoundsException") ∈ lw_all := lw_g (lw_at lw_m5 234 rfl) rfl
theorem q1320 : (Jvm.Cond.methodLink "java/util/Arrays" (70 : Nat) ({ cls := "java/lang/ArrayIndexOutOfBoundsException", name := "<init>", desc := "(I)V" } : Jvm.MethodName)) ∈ lw_all := lw_g (lw_at lw_m6 5 rfl) rfl

/-! java/lang/Throwable -/
set_option maxRecDepth 100000
def RJ11 : String := "java/lang/Throwable"
def TJ11 : u_T := fun k => match k with
  | 0 => ("java/lang/Throwable", "cause", "Ljava/lang/Throwable;", false)
  | 1 => ("java/lang/Throwable", "stackTrace", "[Ljava/lang/StackTraceElement;", false)
  | 2 => ("java/lang/Throwable", "suppressedExceptions", "Ljava/util/List;", false)
  | 3 => ("java/lang/Throwable", "detailMessage", "Ljava/lang/String;", false)
  | _ => ("java/lang/Throwable", "backtrace", "Ljava/lang/Object;", false)
def tyJ11 : Nat → FieldType := fun k => match k with
  | 0 => .object "java/lang/Throwable"
  | 1 => .array (.object "java/lang/StackTraceElement")
  | 2 => .object "java/util/List"
  | 3 => .object "java/lang/String"
  | _ => .object "java/lang/Object"
abbrev wsJ110 : List Cond := u_ws RJ11 TJ11 5
theorem nmJ11 : ∀ a, a < 5 → ∀ b, b < 5 → a ≠ b → (TJ11 a).2.1 ≠ (TJ11 b).2.1 := by decide +kernel
theorem tyJ11_ok : ∀ k, k < 5 → parseFieldDescriptor (TJ11 k).2.2.1 = some (tyJ11 k) := by decide +kernel
abbrev cJ11_init : ByteArray := prog_37_method_1_code
def yJ11_init : MethodName := ⟨RJ11, "<init>", "()V"⟩
def dkwJ11_init_1 : List UInt8 := [182, 0, 27, 87, 177]
abbrev dktJ11_init_1 : List UInt8 := dkwJ11_init_1 ++ []
def dkwJ11_init_0 : List UInt8 := [42, 183, 0, 1, 42, 42, 181, 0, 7, 42, 178, 0, 13, 181, 0, 17, 42, 178, 0, 20, 181, 0, 24, 42]
abbrev dktJ11_init_0 : List UInt8 := dkwJ11_init_0 ++ dktJ11_init_1
theorem dksJ11_init_0 : cJ11_init.data.toList.drop 0 = dktJ11_init_0 := by decide +kernel
theorem dksJ11_init_1 : cJ11_init.data.toList.drop 24 = dktJ11_init_1 := dk_seg dksJ11_init_0 24 rfl rfl
theorem dJ11_init_0 : decode cJ11_init 0 = .ok (.aload_n 0, 1) := dk_42 (dk_at dksJ11_init_0 0 rfl rfl)
theorem dJ11_init_1 : decode cJ11_init 1 = .ok (.invokespecial 1, 3) := dk_183 0 1 (dk_at dksJ11_init_0 1 rfl rfl)
theorem dJ11_init_4 : decode cJ11_init 4 = .ok (.aload_n 0, 1) := dk_42 (dk_at dksJ11_init_0 4 rfl rfl)
theorem dJ11_init_5 : decode cJ11_init 5 = .ok (.aload_n 0, 1) := dk_42 (dk_at dksJ11_init_0 5 rfl rfl)
theorem dJ11_init_6 : decode cJ11_init 6 = .ok (.putfield 7, 3) := dk_181 0 7 (dk_at dksJ11_init_0 6 rfl rfl)
theorem dJ11_init_9 : decode cJ11_init 9 = .ok (.aload_n 0, 1) := dk_42 (dk_at dksJ11_init_0 9 rfl rfl)
theorem dJ11_init_10 : decode cJ11_init 10 = .ok (.getstatic 13, 3) := dk_178 0 13 (dk_at dksJ11_init_0 10 rfl rfl)
theorem dJ11_init_13 : decode cJ11_init 13 = .ok (.putfield 17, 3) := dk_181 0 17 (dk_at dksJ11_init_0 13 rfl rfl)
theorem dJ11_init_16 : decode cJ11_init 16 = .ok (.aload_n 0, 1) := dk_42 (dk_at dksJ11_init_0 16 rfl rfl)
theorem dJ11_init_17 : decode cJ11_init 17 = .ok (.getstatic 20, 3) := dk_178 0 20 (dk_at dksJ11_init_0 17 rfl rfl)
theorem dJ11_init_20 : decode cJ11_init 20 = .ok (.putfield 24, 3) := dk_181 0 24 (dk_at dksJ11_init_0 20 rfl rfl)
theorem dJ11_init_23 : decode cJ11_init 23 = .ok (.aload_n 0, 1) := dk_42 (dk_at dksJ11_init_0 23 rfl rfl)
theorem dJ11_init_24 : decode cJ11_init 24 = .ok (.invokevirtual 27, 3) := dk_182 0 27 (dk_at dksJ11_init_1 0 rfl rfl)
theorem dJ11_init_27 : decode cJ11_init 27 = .ok (.pop, 1) := dk_87 (dk_at dksJ11_init_1 3 rfl rfl)
theorem dJ11_init_28 : decode cJ11_init 28 = .ok (.return_, 1) := dk_177 (dk_at dksJ11_init_1 4 rfl rfl)
abbrev cJ11_init_2 : ByteArray := prog_37_method_2_code
def yJ11_init_2 : MethodName := ⟨RJ11, "<init>", "(Ljava/lang/String;)V"⟩
def dkwJ11_init_2_1 : List UInt8 := [182, 0, 27, 87, 42, 43, 181, 0, 31, 177]
abbrev dktJ11_init_2_1 : List UInt8 := dkwJ11_init_2_1 ++ []
def dkwJ11_init_2_0 : List UInt8 := [42, 183, 0, 1, 42, 42, 181, 0, 7, 42, 178, 0, 13, 181, 0, 17, 42, 178, 0, 20, 181, 0, 24, 42]
abbrev dktJ11_init_2_0 : List UInt8 := dkwJ11_init_2_0 ++ dktJ11_init_2_1
theorem dksJ11_init_2_0 : cJ11_init_2.data.toList.drop 0 = dktJ11_init_2_0 := by decide +kernel
theorem dksJ11_init_2_1 : cJ11_init_2.data.toList.drop 24 = dktJ11_init_2_1 := dk_seg dksJ11_init_2_0 24 rfl rfl
theorem dJ11_init_2_0 : decode cJ11_init_2 0 = .ok (.aload_n 0, 1) := dk_42 (dk_at dksJ11_init_2_0 0 rfl rfl)
theorem dJ11_init_2_1 : decode cJ11_init_2 1 = .ok (.invokespecial 1, 3) := dk_183 0 1 (dk_at dksJ11_init_2_0 1 rfl rfl)
theorem dJ11_init_2_4 : decode cJ11_init_2 4 = .ok (.aload_n 0, 1) := dk_42 (dk_at dksJ11_init_2_0 4 rfl rfl)
theorem dJ11_init_2_5 : decode cJ11_init_2 5 = .ok (.aload_n 0, 1) := dk_42 (dk_at dksJ11_init_2_0 5 rfl rfl)
theorem dJ11_init_2_6 : decode cJ11_init_2 6 = .ok (.putfield 7, 3) := dk_181 0 7 (dk_at dksJ11_init_2_0 6 rfl rfl)
theorem dJ11_init_2_9 : decode cJ11_init_2 9 = .ok (.aload_n 0, 1) := dk_42 (dk_at dksJ11_init_2_0 9 rfl rfl)
theorem dJ11_init_2_10 : decode cJ11_init_2 10 = .ok (.getstatic 13, 3) := dk_178 0 13 (dk_at dksJ11_init_2_0 10 rfl rfl)
theorem dJ11_init_2_13 : decode cJ11_init_2 13 = .ok (.putfield 17, 3) := dk_181 0 17 (dk_at dksJ11_init_2_0 13 rfl rfl)
theorem dJ11_init_2_16 : decode cJ11_init_2 16 = .ok (.aload_n 0, 1) := dk_42 (dk_at dksJ11_init_2_0 16 rfl rfl)
theorem dJ11_init_2_17 : decode cJ11_init_2 17 = .ok (.getstatic 20, 3) := dk_178 0 20 (dk_at dksJ11_init_2_0 17 rfl rfl)
theorem dJ11_init_2_20 : decode cJ11_init_2 20 = .ok (.putfield 24, 3) := dk_181 0 24 (dk_at dksJ11_init_2_0 20 rfl rfl)
theorem dJ11_init_2_23 : decode cJ11_init_2 23 = .ok (.aload_n 0, 1) := dk_42 (dk_at dksJ11_init_2_0 23 rfl rfl)
theorem dJ11_init_2_24 : decode cJ11_init_2 24 = .ok (.invokevirtual 27, 3) := dk_182 0 27 (dk_at dksJ11_init_2_1 0 rfl rfl)
theorem dJ11_init_2_27 : decode cJ11_init_2 27 = .ok (.pop, 1) := dk_87 (dk_at dksJ11_init_2_1 3 rfl rfl)
theorem dJ11_init_2_28 : decode cJ11_init_2 28 = .ok (.aload_n 0, 1) := dk_42 (dk_at dksJ11_init_2_1 4 rfl rfl)
theorem dJ11_init_2_29 : decode cJ11_init_2 29 = .ok (.aload_n 1, 1) := dk_43 (dk_at dksJ11_init_2_1 5 rfl rfl)
theorem dJ11_init_2_30 : decode cJ11_init_2 30 = .ok (.putfield 31, 3) := dk_181 0 31 (dk_at dksJ11_init_2_1 6 rfl rfl)
theorem dJ11_init_2_33 : decode cJ11_init_2 33 = .ok (.return_, 1) := dk_177 (dk_at dksJ11_init_2_1 9 rfl rfl)
theorem q132 : (Jvm.Cond.initialized "java/lang/Throwable") ∈ lw_all := lw_g (lw_at lw_m1 17 rfl) rfl
theorem q386 : (Jvm.Cond.declares ({ cls := "java/lang/Throwable", name := "<init>", desc := "()V" } : Jvm.MethodName)) ∈ lw_tbl := lw_at lw_m2 31 rfl
theorem q387 : (Jvm.Cond.declares ({ cls := "java/lang/Throwable", name := "<init>", desc := "(Ljava/lang/String;)V" } : Jvm.MethodName)) ∈ lw_tbl := lw_at lw_m2 32 rfl
theorem q391 : (Jvm.Cond.lays "java/lang/Throwable" "java/lang/Throwable" "cause" "Ljava/lang/Throwable;") ∈ lw_all := lw_g (lw_at lw_m2 36 rfl) rfl
theorem q393 : (Jvm.Cond.lays "java/lang/Throwable" "java/lang/Throwable" "stackTrace" "[Ljava/lang/StackTraceElement;") ∈ lw_all := lw_g (lw_at lw_m2 38 rfl) rfl
theorem q395 : (Jvm.Cond.lays "java/lang/Throwable" "java/lang/Throwable" "suppressedExceptions" "Ljava/util/List;") ∈ lw_all := lw_g (lw_at lw_m2 40 rfl) rfl
theorem q397 : (Jvm.Cond.lays "java/lang/Throwable" "java/lang/Throwable" "detailMessage" "Ljava/lang/String;") ∈ lw_all := lw_g (lw_at lw_m2 42 rfl) rfl
theorem q399 : (Jvm.Cond.lays "java/lang/Throwable" "java/lang/Throwable" "backtrace" "Ljava/lang/Object;") ∈ lw_all := lw_g (lw_at lw_m2 44 rfl) rfl
theorem q400 : (Jvm.Cond.fieldLink "java/lang/Throwable" (198 : Nat) "java/lang/Throwable" "backtrace" "Ljava/lang/Object;") ∈ lw_all := lw_g (lw_at lw_m2 45 rfl) rfl
theorem q401 : (Jvm.Cond.superclass "java/lang/Throwable" "java/lang/Object") ∈ lw_all := lw_g (lw_at lw_m2 46 rfl) rfl
theorem q402 : (Jvm.Cond.instanceMethod ({ cls := "java/lang/Throwable", name := "<init>", desc := "()V" } : Jvm.MethodName)) ∈ lw_all := lw_g (lw_at lw_m2 47 rfl) rfl
theorem q403 : (Jvm.Cond.code ({ cls := "java/lang/Throwable", name := "<init>", desc := "()V" } : Jvm.MethodName) prog_37_method_1_code (1 : Nat) (Option.none : Option Jvm.ClassFile.FieldType)) ∈ lw_all := lw_g (lw_at lw_m2 48 rfl) rfl
theorem q404 : (Jvm.Cond.methodLink "java/lang/Throwable" (1 : Nat) ({ cls := "java/lang/Object", name := "<init>", desc := "()V" } : Jvm.MethodName)) ∈ lw_all := lw_g (lw_at lw_m2 49 rfl) rfl
theorem q405 : (Jvm.Cond.fieldLink "java/lang/Throwable" (13 : Nat) "java/lang/Throwable" "UNASSIGNED_STACK" "[Ljava/lang/StackTraceElement;") ∈ lw_all := lw_g (lw_at lw_m2 50 rfl) rfl
theorem q406 : (Jvm.Cond.laysStatic "java/lang/Throwable" "UNASSIGNED_STACK" "[Ljava/lang/StackTraceElement;") ∈ lw_tbl := lw_at lw_m2 51 rfl
theorem q407 : (Jvm.Cond.fieldLink "java/lang/Throwable" (20 : Nat) "java/lang/Throwable" "SUPPRESSED_SENTINEL" "Ljava/util/List;") ∈ lw_all := lw_g (lw_at lw_m2 52 rfl) rfl
theorem q408 : (Jvm.Cond.laysStatic "java/lang/Throwable" "SUPPRESSED_SENTINEL" "Ljava/util/List;") ∈ lw_tbl := lw_at lw_m2 53 rfl
theorem q409 : (Jvm.Cond.methodLink "java/lang/Throwable" (27 : Nat) ({ cls := "java/lang/Throwable", name := "fillInStackTrace", desc := "()Ljava/lang/Throwable;" } : Jvm.MethodName)) ∈ lw_all := lw_g (lw_at lw_m2 54 rfl) rfl
theorem q410 : (Jvm.Cond.instanceMethod ({ cls := "java/lang/Throwable", name := "fillInStackTrace", desc := "()Ljava/lang/Throwable;" } : Jvm.MethodName)) ∈ lw_all := lw_g (lw_at lw_m2 55 rfl) rfl
theorem q411 : (Jvm.Cond.sameMethod "java/lang/Throwable" "java/lang/Throwable" "fillInStackTrace" "()Ljava/lang/Throwable;") ∈ lw_all := lw_g (lw_at lw_m2 56 rfl) rfl
theorem q418 : (Jvm.Cond.codeSync ({ cls := "java/lang/Throwable", name := "fillInStackTrace", desc := "()Ljava/lang/Throwable;" } : Jvm.MethodName) prog_37_method_18_code (1 : Nat) (Option.some (Jvm.ClassFile.FieldType.object "java/lang/Throwable"))) ∈ lw_all := lw_g (lw_at lw_m2 63 rfl) rfl
theorem q419 : (Jvm.Cond.methodLink "java/lang/Throwable" (202 : Nat) ({ cls := "java/lang/Throwable", name := "fillInStackTrace", desc := "(I)Ljava/lang/Throwable;" } : Jvm.MethodName)) ∈ lw_all := lw_g (lw_at lw_m2 64 rfl) rfl
theorem q420 : (Jvm.Cond.privateMethod ({ cls := "java/lang/Throwable", name := "fillInStackTrace", desc := "(I)Ljava/lang/Throwable;" } : Jvm.MethodName)) ∈ lw_tbl := lw_at lw_m2 65 rfl
theorem q421 : (Jvm.Cond.instanceMethod ({ cls := "java/lang/Throwable", name := "fillInStackTrace", desc := "(I)Ljava/lang/Throwable;" } : Jvm.MethodName)) ∈ lw_all := lw_g (lw_at lw_m2 66 rfl) rfl
theorem q422 : (Jvm.Cond.instantiable "java/lang/Throwable" (6 : Nat)) ∈ lw_all := lw_g (lw_at lw_m2 67 rfl) rfl
theorem q423 : (Jvm.Cond.native ({ cls := "java/lang/Throwable", name := "fillInStackTrace", desc := "(I)Ljava/lang/Throwable;" } : Jvm.MethodName)) ∈ lw_all := lw_g (lw_at lw_m2 68 rfl) rfl
theorem q608 : (Jvm.Cond.instanceMethod ({ cls := "java/lang/Throwable", name := "<init>", desc := "(Ljava/lang/String;)V" } : Jvm.MethodName)) ∈ lw_all := lw_g (lw_at lw_m3 13 rfl) rfl
theorem q609 : (Jvm.Cond.code ({ cls := "java/lang/Throwable", name := "<init>", desc := "(Ljava/lang/String;)V" } : Jvm.MethodName) prog_37_method_2_code (2 : Nat) (Option.none : Option Jvm.ClassFile.FieldType)) ∈ lw_all := lw_g (lw_at lw_m3 14 rfl) rfl
theorem q610 : (Jvm.Cond.fieldLink "java/lang/Throwable" (198 : Nat) "java/lang/Throwable" "backtrace" "Ljava/lang/Object;") ∈ lw_all := lw_g (lw_at lw_m3 15 rfl) rfl
theorem q611 : (Jvm.Cond.fieldLink "java/lang/Throwable" (31 : Nat) "java/lang/Throwable" "detailMessage" "Ljava/lang/String;") ∈ lw_all := lw_g (lw_at lw_m3 16 rfl) rfl
theorem q612 : (Jvm.Cond.fieldLink "java/lang/Throwable" (7 : Nat) "java/lang/Throwable" "cause" "Ljava/lang/Throwable;") ∈ lw_all := lw_g (lw_at lw_m3 17 rfl) rfl
theorem q613 : (Jvm.Cond.fieldLink "java/lang/Throwable" (17 : Nat) "java/lang/Throwable" "stackTrace" "[Ljava/lang/StackTraceElement;") ∈ lw_all := lw_g (lw_at lw_m3 18 rfl) rfl
theorem q614 : (Jvm.Cond.fieldLink "java/lang/Throwable" (24 : Nat) "java/lang/Throwable" "suppressedExceptions" "Ljava/util/List;") ∈ lw_all := lw_g (lw_at lw_m3 19 rfl) rfl
theorem q615 : (Jvm.Cond.soleField "java/lang/Throwable" "backtrace") ∈ lw_all := lw_g (lw_at lw_m3 20 rfl) rfl
theorem q616 : (Jvm.Cond.soleField "java/lang/Throwable" "detailMessage") ∈ lw_all := lw_g (lw_at lw_m3 21 rfl) rfl
theorem q617 : (Jvm.Cond.soleField "java/lang/Throwable" "cause") ∈ lw_all := lw_g (lw_at lw_m3 22 rfl) rfl
theorem q618 : (Jvm.Cond.soleField "java/lang/Throwable" "stackTrace") ∈ lw_all := lw_g (lw_at lw_m3 23 rfl) rfl
theorem q620 : (Jvm.Cond.soleField "java/lang/Throwable" "depth") ∈ lw_all := lw_g (lw_at lw_m3 25 rfl) rfl
theorem q621 : (Jvm.Cond.soleField "java/lang/Throwable" "suppressedExceptions") ∈ lw_all := lw_g (lw_at lw_m3 26 rfl) rfl
theorem q2704 : (Jvm.Cond.sameMethod "java/lang/Throwable" "java/lang/Throwable" "fillInStackTrace" "(I)Ljava/lang/Throwable;") ∈ lw_all := lw_g (lw_at lw_m11 189 rfl) rfl
theorem q2741 : (Jvm.Cond.castable "java/lang/Throwable" "java/lang/Object") ∈ lw_tbl := lw_at lw_m11 226 rfl
theorem in_J11 : ∀ w ∈ wsJ110, w ∈ lw_all := lw_in wsJ110 [391, 393, 395, 397, 399] (by decide +kernel) (by decide +kernel)

/-! java/lang/Exception -/
set_option maxRecDepth 100000
def RJ12 : String := "java/lang/Exception"
abbrev cJ12_init : ByteArray := prog_20_method_2_code
def yJ12_init : MethodName := ⟨RJ12, "<init>", "(Ljava/lang/String;)V"⟩
def dkwJ12_init_0 : List UInt8 := [42, 43, 183, 0, 7, 177]
abbrev dktJ12_init_0 : List UInt8 := dkwJ12_init_0 ++ []
theorem dksJ12_init_0 : cJ12_init.data.toList.drop 0 = dktJ12_init_0 := by decide +kernel
theorem dJ12_init_0 : decode cJ12_init 0 = .ok (.aload_n 0, 1) := dk_42 (dk_at dksJ12_init_0 0 rfl rfl)
theorem dJ12_init_1 : decode cJ12_init 1 = .ok (.aload_n 1, 1) := dk_43 (dk_at dksJ12_init_0 1 rfl rfl)
theorem dJ12_init_2 : decode cJ12_init 2 = .ok (.invokespecial 7, 3) := dk_183 0 7 (dk_at dksJ12_init_0 2 rfl rfl)
theorem dJ12_init_5 : decode cJ12_init 5 = .ok (.return_, 1) := dk_177 (dk_at dksJ12_init_0 5 rfl rfl)
abbrev cJ12_init_2 : ByteArray := prog_20_method_1_code
def yJ12_init_2 : MethodName := ⟨RJ12, "<init>", "()V"⟩
theorem dJ12_init_2_0 : decode cJ12_init_2 0 = .ok (.aload_n 0, 1) := by decide +kernel
theorem dJ12_init_2_1 : decode cJ12_init_2 1 = .ok (.invokespecial 1, 3) := by decide +kernel
theorem dJ12_init_2_4 : decode cJ12_init_2 4 = .ok (.return_, 1) := by decide +kernel
theorem q133 : (Jvm.Cond.initialized "java/lang/Exception") ∈ lw_all := lw_g (lw_at lw_m1 18 rfl) rfl
theorem q384 : (Jvm.Cond.declares ({ cls := "java/lang/Exception", name := "<init>", desc := "()V" } : Jvm.MethodName)) ∈ lw_tbl := lw_at lw_m2 29 rfl
theorem q385 : (Jvm.Cond.declares ({ cls := "java/lang/Exception", name := "<init>", desc := "(Ljava/lang/String;)V" } : Jvm.MethodName)) ∈ lw_tbl := lw_at lw_m2 30 rfl
theorem q605 : (Jvm.Cond.instanceMethod ({ cls := "java/lang/Exception", name := "<init>", desc := "(Ljava/lang/String;)V" } : Jvm.MethodName)) ∈ lw_all := lw_g (lw_at lw_m3 10 rfl) rfl
theorem q606 : (Jvm.Cond.code ({ cls := "java/lang/Exception", name := "<init>", desc := "(Ljava/lang/String;)V" } : Jvm.MethodName) prog_20_method_2_code (2 : Nat) (Option.none : Option Jvm.ClassFile.FieldType)) ∈ lw_all := lw_g (lw_at lw_m3 11 rfl) rfl
theorem q607 : (Jvm.Cond.methodLink "java/lang/Exception" (7 : Nat) ({ cls := "java/lang/Throwable", name := "<init>", desc := "(Ljava/lang/String;)V" } : Jvm.MethodName)) ∈ lw_all := lw_g (lw_at lw_m3 12 rfl) rfl
theorem q712 : (Jvm.Cond.instanceMethod ({ cls := "java/lang/Exception", name := "<init>", desc := "()V" } : Jvm.MethodName)) ∈ lw_all := lw_g (lw_at lw_m3 117 rfl) rfl
theorem q713 : (Jvm.Cond.code ({ cls := "java/lang/Exception", name := "<init>", desc := "()V" } : Jvm.MethodName) prog_20_method_1_code (1 : Nat) (Option.none : Option Jvm.ClassFile.FieldType)) ∈ lw_all := lw_g (lw_at lw_m3 118 rfl) rfl
theorem q714 : (Jvm.Cond.methodLink "java/lang/Exception" (1 : Nat) ({ cls := "java/lang/Throwable", name := "<init>", desc := "()V" } : Jvm.MethodName)) ∈ lw_all := lw_g (lw_at lw_m3 119 rfl) rfl

/-! java/lang/RuntimeException -/
set_option maxRecDepth 100000
def RJ13 : String := "java/lang/RuntimeException"
abbrev cJ13_init : ByteArray := prog_29_method_2_code
def yJ13_init : MethodName := ⟨RJ13, "<init>", "(Ljava/lang/String;)V"⟩
def dkwJ13_init_0 : List UInt8 := [42, 43, 183, 0, 7, 177]
abbrev dktJ13_init_0 : List UInt8 := dkwJ13_init_0 ++ []
theorem dksJ13_init_0 : cJ13_init.data.toList.drop 0 = dktJ13_init_0 := by decide +kernel
theorem dJ13_init_0 : decode cJ13_init 0 = .ok (.aload_n 0, 1) := dk_42 (dk_at dksJ13_init_0 0 rfl rfl)
theorem dJ13_init_1 : decode cJ13_init 1 = .ok (.aload_n 1, 1) := dk_43 (dk_at dksJ13_init_0 1 rfl rfl)
theorem dJ13_init_2 : decode cJ13_init 2 = .ok (.invokespecial 7, 3) := dk_183 0 7 (dk_at dksJ13_init_0 2 rfl rfl)
theorem dJ13_init_5 : decode cJ13_init 5 = .ok (.return_, 1) := dk_177 (dk_at dksJ13_init_0 5 rfl rfl)
abbrev cJ13_init_2 : ByteArray := prog_29_method_1_code
def yJ13_init_2 : MethodName := ⟨RJ13, "<init>", "()V"⟩
theorem dJ13_init_2_0 : decode cJ13_init_2 0 = .ok (.aload_n 0, 1) := by decide +kernel
theorem dJ13_init_2_1 : decode cJ13_init_2 1 = .ok (.invokespecial 1, 3) := by decide +kernel
theorem dJ13_init_2_4 : decode cJ13_init_2 4 = .ok (.return_, 1) := by decide +kernel
theorem q134 : (Jvm.Cond.initialized "java/lang/RuntimeException") ∈ lw_all := lw_g (lw_at lw_m1 19 rfl) rfl
theorem q382 : (Jvm.Cond.declares ({ cls := "java/lang/RuntimeException", name := "<init>", desc := "()V" } : Jvm.MethodName)) ∈ lw_tbl := lw_at lw_m2 27 rfl
theorem q383 : (Jvm.Cond.declares ({ cls := "java/lang/RuntimeException", name := "<init>", desc := "(Ljava/lang/String;)V" } : Jvm.MethodName)) ∈ lw_tbl := lw_at lw_m2 28 rfl
theorem q602 : (Jvm.Cond.instanceMethod ({ cls := "java/lang/RuntimeException", name := "<init>", desc := "(Ljava/lang/String;)V" } : Jvm.MethodName)) ∈ lw_all := lw_g (lw_at lw_m3 7 rfl) rfl
theorem q603 : (Jvm.Cond.code ({ cls := "java/lang/RuntimeException", name := "<init>", desc := "(Ljava/lang/String;)V" } : Jvm.MethodName) prog_29_method_2_code (2 : Nat) (Option.none : Option Jvm.ClassFile.FieldType)) ∈ lw_all := lw_g (lw_at lw_m3 8 rfl) rfl
theorem q604 : (Jvm.Cond.methodLink "java/lang/RuntimeException" (7 : Nat) ({ cls := "java/lang/Exception", name := "<init>", desc := "(Ljava/lang/String;)V" } : Jvm.MethodName)) ∈ lw_all := lw_g (lw_at lw_m3 9 rfl) rfl
theorem q1214 : (Jvm.Cond.instanceMethod ({ cls := "java/lang/RuntimeException", name := "<init>", desc := "()V" } : Jvm.MethodName)) ∈ lw_all := lw_g (lw_at lw_m5 139 rfl) rfl
theorem q1215 : (Jvm.Cond.code ({ cls := "java/lang/RuntimeException", name := "<init>", desc := "()V" } : Jvm.MethodName) prog_29_method_1_code (1 : Nat) (Option.none : Option Jvm.ClassFile.FieldType)) ∈ lw_all := lw_g (lw_at lw_m5 140 rfl) rfl
theorem q1216 : (Jvm.Cond.methodLink "java/lang/RuntimeException" (1 : Nat) ({ cls := "java/lang/Exception", name := "<init>", desc := "()V" } : Jvm.MethodName)) ∈ lw_all := lw_g (lw_at lw_m5 141 rfl) rfl

/-! java/lang/IllegalArgumentException -/
set_option maxRecDepth 100000
def RJ14 : String := "java/lang/IllegalArgumentException"
def TJ14 : u_T := fun k => match k with
  | 0 => ("java/lang/Throwable", "cause", "Ljava/lang/Throwable;", false)
  | 1 => ("java/lang/Throwable", "stackTrace", "[Ljava/lang/StackTraceElement;", false)
  | 2 => ("java/lang/Throwable", "suppressedExceptions", "Ljava/util/List;", false)
  | 3 => ("java/lang/Throwable", "detailMessage", "Ljava/lang/String;", false)
  | 4 => ("java/lang/Throwable", "backtrace", "Ljava/lang/Object;", false)
  | _ => ("java/lang/Throwable", "depth", "I", false)
def tyJ14 : Nat → FieldType := fun k => match k with
  | 0 => .object "java/lang/Throwable"
  | 1 => .array (.object "java/lang/StackTraceElement")
  | 2 => .object "java/util/List"
  | 3 => .object "java/lang/String"
  | 4 => .object "java/lang/Object"
  | _ => .int
abbrev wsJ140 : List Cond := u_ws RJ14 TJ14 6
theorem nmJ14 : ∀ a, a < 6 → ∀ b, b < 6 → a ≠ b → (TJ14 a).2.1 ≠ (TJ14 b).2.1 := by decide +kernel
theorem tyJ14_ok : ∀ k, k < 6 → parseFieldDescriptor (TJ14 k).2.2.1 = some (tyJ14 k) := by decide +kernel
abbrev cJ14_init : ByteArray := prog_21_method_2_code
def yJ14_init : MethodName := ⟨RJ14, "<init>", "(Ljava/lang/String;)V"⟩
def dkwJ14_init_0 : List UInt8 := [42, 43, 183, 0, 7, 177]
abbrev dktJ14_init_0 : List UInt8 := dkwJ14_init_0 ++ []
theorem dksJ14_init_0 : cJ14_init.data.toList.drop 0 = dktJ14_init_0 := by decide +kernel
theorem dJ14_init_0 : decode cJ14_init 0 = .ok (.aload_n 0, 1) := dk_42 (dk_at dksJ14_init_0 0 rfl rfl)
theorem dJ14_init_1 : decode cJ14_init 1 = .ok (.aload_n 1, 1) := dk_43 (dk_at dksJ14_init_0 1 rfl rfl)
theorem dJ14_init_2 : decode cJ14_init 2 = .ok (.invokespecial 7, 3) := dk_183 0 7 (dk_at dksJ14_init_0 2 rfl rfl)
theorem dJ14_init_5 : decode cJ14_init 5 = .ok (.return_, 1) := dk_177 (dk_at dksJ14_init_0 5 rfl rfl)
abbrev cJ14_init_2 : ByteArray := prog_21_method_1_code
def yJ14_init_2 : MethodName := ⟨RJ14, "<init>", "()V"⟩
theorem dJ14_init_2_0 : decode cJ14_init_2 0 = .ok (.aload_n 0, 1) := by decide +kernel
theorem dJ14_init_2_1 : decode cJ14_init_2 1 = .ok (.invokespecial 1, 3) := by decide +kernel
theorem dJ14_init_2_4 : decode cJ14_init_2 4 = .ok (.return_, 1) := by decide +kernel
theorem q135 : (Jvm.Cond.initialized "java/lang/IllegalArgumentException") ∈ lw_all := lw_g (lw_at lw_m1 20 rfl) rfl
theorem q380 : (Jvm.Cond.instantiable "java/lang/IllegalArgumentException" (6 : Nat)) ∈ lw_all := lw_g (lw_at lw_m2 25 rfl) rfl
theorem q381 : (Jvm.Cond.castable "java/lang/IllegalArgumentException" "java/lang/IllegalArgumentException") ∈ lw_tbl := lw_at lw_m2 26 rfl
theorem q388 : (Jvm.Cond.selects "java/lang/IllegalArgumentException" ({ cls := "java/lang/Throwable", name := "fillInStackTrace", desc := "(I)Ljava/lang/Throwable;" } : Jvm.MethodName) ({ cls := "java/lang/Throwable", name := "fillInStackTrace", desc := "(I)Ljava/lang/Throwable;" } : Jvm.MethodName)) ∈ lw_all := lw_g (lw_at lw_m2 33 rfl) rfl
theorem q389 : (Jvm.Cond.selects "java/lang/IllegalArgumentException" ({ cls := "java/lang/Throwable", name := "fillInStackTrace", desc := "()Ljava/lang/Throwable;" } : Jvm.MethodName) ({ cls := "java/lang/Throwable", name := "fillInStackTrace", desc := "()Ljava/lang/Throwable;" } : Jvm.MethodName)) ∈ lw_all := lw_g (lw_at lw_m2 34 rfl) rfl
theorem q390 : (Jvm.Cond.lays "java/lang/IllegalArgumentException" "java/lang/Throwable" "cause" "Ljava/lang/Throwable;") ∈ lw_all := lw_g (lw_at lw_m2 35 rfl) rfl
theorem q392 : (Jvm.Cond.lays "java/lang/IllegalArgumentException" "java/lang/Throwable" "stackTrace" "[Ljava/lang/StackTraceElement;") ∈ lw_all := lw_g (lw_at lw_m2 37 rfl) rfl
theorem q394 : (Jvm.Cond.lays "java/lang/IllegalArgumentException" "java/lang/Throwable" "suppressedExceptions" "Ljava/util/List;") ∈ lw_all := lw_g (lw_at lw_m2 39 rfl) rfl
theorem q396 : (Jvm.Cond.lays "java/lang/IllegalArgumentException" "java/lang/Throwable" "detailMessage" "Ljava/lang/String;") ∈ lw_all := lw_g (lw_at lw_m2 41 rfl) rfl
theorem q398 : (Jvm.Cond.lays "java/lang/IllegalArgumentException" "java/lang/Throwable" "backtrace" "Ljava/lang/Object;") ∈ lw_all := lw_g (lw_at lw_m2 43 rfl) rfl
theorem q599 : (Jvm.Cond.instanceMethod ({ cls := "java/lang/IllegalArgumentException", name := "<init>", desc := "(Ljava/lang/String;)V" } : Jvm.MethodName)) ∈ lw_all := lw_g (lw_at lw_m3 4 rfl) rfl
theorem q600 : (Jvm.Cond.code ({ cls := "java/lang/IllegalArgumentException", name := "<init>", desc := "(Ljava/lang/String;)V" } : Jvm.MethodName) prog_21_method_2_code (2 : Nat) (Option.none : Option Jvm.ClassFile.FieldType)) ∈ lw_all := lw_g (lw_at lw_m3 5 rfl) rfl
theorem q601 : (Jvm.Cond.methodLink "java/lang/IllegalArgumentException" (7 : Nat) ({ cls := "java/lang/RuntimeException", name := "<init>", desc := "(Ljava/lang/String;)V" } : Jvm.MethodName)) ∈ lw_all := lw_g (lw_at lw_m3 6 rfl) rfl
theorem q619 : (Jvm.Cond.lays "java/lang/IllegalArgumentException" "java/lang/Throwable" "depth" "I") ∈ lw_all := lw_g (lw_at lw_m3 24 rfl) rfl
theorem q622 : (Jvm.Cond.superclass "java/lang/IllegalArgumentException" "java/lang/RuntimeException") ∈ lw_all := lw_g (lw_at lw_m3 27 rfl) rfl
theorem q885 : (Jvm.Cond.selects "java/lang/IllegalArgumentException" ({ cls := "java/lang/Object", name := "getClass", desc := "()Ljava/lang/Class;" } : Jvm.MethodName) ({ cls := "java/lang/Object", name := "getClass", desc := "()Ljava/lang/Class;" } : Jvm.MethodName)) ∈ lw_all := lw_g (lw_at lw_m4 50 rfl) rfl
theorem q1644 : (Jvm.Cond.instanceMethod ({ cls := "java/lang/IllegalArgumentException", name := "<init>", desc := "()V" } : Jvm.MethodName)) ∈ lw_all := lw_g (lw_at lw_m7 89 rfl) rfl
theorem q1645 : (Jvm.Cond.code ({ cls := "java/lang/IllegalArgumentException", name := "<init>", desc := "()V" } : Jvm.MethodName) prog_21_method_1_code (1 : Nat) (Option.none : Option Jvm.ClassFile.FieldType)) ∈ lw_all := lw_g (lw_at lw_m7 90 rfl) rfl
theorem q1646 : (Jvm.Cond.methodLink "java/lang/IllegalArgumentException" (1 : Nat) ({ cls := "java/lang/RuntimeException", name := "<init>", desc := "()V" } : Jvm.MethodName)) ∈ lw_all := lw_g (lw_at lw_m7 91 rfl) rfl
theorem q2727 : (Jvm.Cond.castable "java/lang/IllegalArgumentException" "java/lang/Object") ∈ lw_tbl := lw_at lw_m11 212 rfl
theorem in_J14 : ∀ w ∈ wsJ140, w ∈ lw_all := lw_in wsJ140 [390, 392, 394, 396, 398, 619] (by decide +kernel) (by decide +kernel)

/-! java/lang/Integer -/
set_option maxRecDepth 100000
def RJ15 : String := "java/lang/Integer"
abbrev cJ15_stringSize : ByteArray := prog_24_method_13_code
def yJ15_stringSize : MethodName := ⟨RJ15, "stringSize", "(I)I"⟩
def dkwJ15_stringSize_1 : List UInt8 := [164, 0, 7, 29, 27, 96, 172, 16, 10, 28, 104, 61, 132, 3, 1, 167, 255, 233, 16, 10, 27, 96, 172]
abbrev dktJ15_stringSize_1 : List UInt8 := dkwJ15_stringSize_1 ++ []
def dkwJ15_stringSize_0 : List UInt8 := [4, 60, 26, 155, 0, 8, 3, 60, 26, 116, 59, 16, 246, 61, 4, 62, 29, 16, 10, 162, 0, 23, 26, 28]
abbrev dktJ15_stringSize_0 : List UInt8 := dkwJ15_stringSize_0 ++ dktJ15_stringSize_1
theorem dksJ15_stringSize_0 : cJ15_stringSize.data.toList.drop 0 = dktJ15_stringSize_0 := by decide +kernel
theorem dksJ15_stringSize_1 : cJ15_stringSize.data.toList.drop 24 = dktJ15_stringSize_1 := dk_seg dksJ15_stringSize_0 24 rfl rfl
theorem dJ15_stringSize_0 : decode cJ15_stringSize 0 = .ok (.iconst 1, 1) := dk_4 (dk_at dksJ15_stringSize_0 0 rfl rfl)
theorem dJ15_stringSize_1 : decode cJ15_stringSize 1 = .ok (.istore_n 1, 1) := dk_60 (dk_at dksJ15_stringSize_0 1 rfl rfl)
theorem dJ15_stringSize_2 : decode cJ15_stringSize 2 = .ok (.iload_n 0, 1) := dk_26 (dk_at dksJ15_stringSize_0 2 rfl rfl)
theorem dJ15_stringSize_3 : decode cJ15_stringSize 3 = .ok (.ifCond .lt 8, 3) := dk_155 0 8 (dk_at dksJ15_stringSize_0 3 rfl rfl)
theorem dJ15_stringSize_6 : decode cJ15_stringSize 6 = .ok (.iconst 0, 1) := dk_3 (dk_at dksJ15_stringSize_0 6 rfl rfl)
theorem dJ15_stringSize_7 : decode cJ15_stringSize 7 = .ok (.istore_n 1, 1) := dk_60 (dk_at dksJ15_stringSize_0 7 rfl rfl)
theorem dJ15_stringSize_8 : decode cJ15_stringSize 8 = .ok (.iload_n 0, 1) := dk_26 (dk_at dksJ15_stringSize_0 8 rfl rfl)
theorem dJ15_stringSize_9 : decode cJ15_stringSize 9 = .ok (.ineg, 1) := dk_116 (dk_at dksJ15_stringSize_0 9 rfl rfl)
theorem dJ15_stringSize_10 : decode cJ15_stringSize 10 = .ok (.istore_n 0, 1) := dk_59 (dk_at dksJ15_stringSize_0 10 rfl rfl)
theorem dJ15_stringSize_11 : decode cJ15_stringSize 11 = .ok (.bipush (-10), 2) := dk_16 246 (dk_at dksJ15_stringSize_0 11 rfl rfl)
theorem dJ15_stringSize_13 : decode cJ15_stringSize 13 = .ok (.istore_n 2, 1) := dk_61 (dk_at dksJ15_stringSize_0 13 rfl rfl)
theorem dJ15_stringSize_14 : decode cJ15_stringSize 14 = .ok (.iconst 1, 1) := dk_4 (dk_at dksJ15_stringSize_0 14 rfl rfl)
theorem dJ15_stringSize_15 : decode cJ15_stringSize 15 = .ok (.istore_n 3, 1) := dk_62 (dk_at dksJ15_stringSize_0 15 rfl rfl)
theorem dJ15_stringSize_16 : decode cJ15_stringSize 16 = .ok (.iload_n 3, 1) := dk_29 (dk_at dksJ15_stringSize_0 16 rfl rfl)
theorem dJ15_stringSize_17 : decode cJ15_stringSize 17 = .ok (.bipush 10, 2) := dk_16 10 (dk_at dksJ15_stringSize_0 17 rfl rfl)
theorem dJ15_stringSize_19 : decode cJ15_stringSize 19 = .ok (.if_icmp .ge 23, 3) := dk_162 0 23 (dk_at dksJ15_stringSize_0 19 rfl rfl)
theorem dJ15_stringSize_22 : decode cJ15_stringSize 22 = .ok (.iload_n 0, 1) := dk_26 (dk_at dksJ15_stringSize_0 22 rfl rfl)
theorem dJ15_stringSize_23 : decode cJ15_stringSize 23 = .ok (.iload_n 2, 1) := dk_28 (dk_at dksJ15_stringSize_0 23 rfl rfl)
theorem dJ15_stringSize_24 : decode cJ15_stringSize 24 = .ok (.if_icmp .le 7, 3) := dk_164 0 7 (dk_at dksJ15_stringSize_1 0 rfl rfl)
theorem dJ15_stringSize_27 : decode cJ15_stringSize 27 = .ok (.iload_n 3, 1) := dk_29 (dk_at dksJ15_stringSize_1 3 rfl rfl)
theorem dJ15_stringSize_28 : decode cJ15_stringSize 28 = .ok (.iload_n 1, 1) := dk_27 (dk_at dksJ15_stringSize_1 4 rfl rfl)
theorem dJ15_stringSize_29 : decode cJ15_stringSize 29 = .ok (.iadd, 1) := dk_96 (dk_at dksJ15_stringSize_1 5 rfl rfl)
theorem dJ15_stringSize_30 : decode cJ15_stringSize 30 = .ok (.ireturn, 1) := dk_172 (dk_at dksJ15_stringSize_1 6 rfl rfl)
theorem dJ15_stringSize_31 : decode cJ15_stringSize 31 = .ok (.bipush 10, 2) := dk_16 10 (dk_at dksJ15_stringSize_1 7 rfl rfl)
theorem dJ15_stringSize_33 : decode cJ15_stringSize 33 = .ok (.iload_n 2, 1) := dk_28 (dk_at dksJ15_stringSize_1 9 rfl rfl)
theorem dJ15_stringSize_34 : decode cJ15_stringSize 34 = .ok (.imul, 1) := dk_104 (dk_at dksJ15_stringSize_1 10 rfl rfl)
theorem dJ15_stringSize_35 : decode cJ15_stringSize 35 = .ok (.istore_n 2, 1) := dk_61 (dk_at dksJ15_stringSize_1 11 rfl rfl)
theorem dJ15_stringSize_36 : decode cJ15_stringSize 36 = .ok (.iinc 3 1, 3) := dk_132 3 1 (dk_at dksJ15_stringSize_1 12 rfl rfl)
theorem dJ15_stringSize_39 : decode cJ15_stringSize 39 = .ok (.goto (-23), 3) := dk_167 255 233 (dk_at dksJ15_stringSize_1 15 rfl rfl)
theorem dJ15_stringSize_42 : decode cJ15_stringSize 42 = .ok (.bipush 10, 2) := dk_16 10 (dk_at dksJ15_stringSize_1 18 rfl rfl)
theorem dJ15_stringSize_44 : decode cJ15_stringSize 44 = .ok (.iload_n 1, 1) := dk_27 (dk_at dksJ15_stringSize_1 20 rfl rfl)
theorem dJ15_stringSize_45 : decode cJ15_stringSize 45 = .ok (.iadd, 1) := dk_96 (dk_at dksJ15_stringSize_1 21 rfl rfl)
theorem dJ15_stringSize_46 : decode cJ15_stringSize 46 = .ok (.ireturn, 1) := dk_172 (dk_at dksJ15_stringSize_1 22 rfl rfl)
abbrev cJ15_getChars : ByteArray := prog_24_method_12_code
def yJ15_getChars : MethodName := ⟨RJ15, "getChars", "(II[B)I"⟩
def dkwJ15_getChars_5 : List UInt8 := [16, 45, 84, 21, 5, 172]
abbrev dktJ15_getChars_5 : List UInt8 := dkwJ15_getChars_5 ++ []
def dkwJ15_getChars_4 : List UInt8 := [132, 5, 255, 21, 5, 178, 0, 87, 26, 116, 51, 84, 21, 6, 153, 0, 12, 44, 132, 5, 255, 21, 5]
abbrev dktJ15_getChars_4 : List UInt8 := dkwJ15_getChars_4 ++ dktJ15_getChars_5
def dkwJ15_getChars_3 : List UInt8 := [167, 255, 209, 44, 132, 5, 255, 21, 5, 178, 0, 83, 26, 116, 51, 84, 26, 16, 247, 162, 0, 16, 44]
abbrev dktJ15_getChars_3 : List UInt8 := dkwJ15_getChars_3 ++ dktJ15_getChars_4
def dkwJ15_getChars_2 : List UInt8 := [21, 5, 178, 0, 83, 21, 4, 51, 84, 44, 132, 5, 255, 21, 5, 178, 0, 87, 21, 4, 51, 84]
abbrev dktJ15_getChars_2 : List UInt8 := dkwJ15_getChars_2 ++ dktJ15_getChars_3
def dkwJ15_getChars_1 : List UInt8 := [16, 156, 163, 0, 47, 26, 16, 100, 108, 62, 29, 16, 100, 104, 26, 100, 54, 4, 29, 59, 44, 132, 5, 255]
abbrev dktJ15_getChars_1 : List UInt8 := dkwJ15_getChars_1 ++ dktJ15_getChars_2
def dkwJ15_getChars_0 : List UInt8 := [27, 54, 5, 26, 156, 0, 7, 4, 167, 0, 4, 3, 54, 6, 21, 6, 154, 0, 6, 26, 116, 59, 26]
abbrev dktJ15_getChars_0 : List UInt8 := dkwJ15_getChars_0 ++ dktJ15_getChars_1
theorem dksJ15_getChars_0 : cJ15_getChars.data.toList.drop 0 = dktJ15_getChars_0 := by decide +kernel
theorem dksJ15_getChars_1 : cJ15_getChars.data.toList.drop 23 = dktJ15_getChars_1 := dk_seg dksJ15_getChars_0 23 rfl rfl
theorem dksJ15_getChars_2 : cJ15_getChars.data.toList.drop 47 = dktJ15_getChars_2 := dk_seg dksJ15_getChars_1 24 rfl rfl
theorem dksJ15_getChars_3 : cJ15_getChars.data.toList.drop 69 = dktJ15_getChars_3 := dk_seg dksJ15_getChars_2 22 rfl rfl
theorem dksJ15_getChars_4 : cJ15_getChars.data.toList.drop 92 = dktJ15_getChars_4 := dk_seg dksJ15_getChars_3 23 rfl rfl
theorem dksJ15_getChars_5 : cJ15_getChars.data.toList.drop 115 = dktJ15_getChars_5 := dk_seg dksJ15_getChars_4 23 rfl rfl
theorem dJ15_getChars_0 : decode cJ15_getChars 0 = .ok (.iload_n 1, 1) := dk_27 (dk_at dksJ15_getChars_0 0 rfl rfl)
theorem dJ15_getChars_1 : decode cJ15_getChars 1 = .ok (.istore 5, 2) := dk_54 5 (dk_at dksJ15_getChars_0 1 rfl rfl)
theorem dJ15_getChars_3 : decode cJ15_getChars 3 = .ok (.iload_n 0, 1) := dk_26 (dk_at dksJ15_getChars_0 3 rfl rfl)
theorem dJ15_getChars_4 : decode cJ15_getChars 4 = .ok (.ifCond .ge 7, 3) := dk_156 0 7 (dk_at dksJ15_getChars_0 4 rfl rfl)
theorem dJ15_getChars_7 : decode cJ15_getChars 7 = .ok (.iconst 1, 1) := dk_4 (dk_at dksJ15_getChars_0 7 rfl rfl)
theorem dJ15_getChars_8 : decode cJ15_getChars 8 = .ok (.goto 4, 3) := dk_167 0 4 (dk_at dksJ15_getChars_0 8 rfl rfl)
theorem dJ15_getChars_11 : decode cJ15_getChars 11 = .ok (.iconst 0, 1) := dk_3 (dk_at dksJ15_getChars_0 11 rfl rfl)
theorem dJ15_getChars_12 : decode cJ15_getChars 12 = .ok (.istore 6, 2) := dk_54 6 (dk_at dksJ15_getChars_0 12 rfl rfl)
theorem dJ15_getChars_14 : decode cJ15_getChars 14 = .ok (.iload 6, 2) := dk_21 6 (dk_at dksJ15_getChars_0 14 rfl rfl)
theorem dJ15_getChars_16 : decode cJ15_getChars 16 = .ok (.ifCond .ne 6, 3) := dk_154 0 6 (dk_at dksJ15_getChars_0 16 rfl rfl)
theorem dJ15_getChars_19 : decode cJ15_getChars 19 = .ok (.iload_n 0, 1) := dk_26 (dk_at dksJ15_getChars_0 19 rfl rfl)
theorem dJ15_getChars_20 : decode cJ15_getChars 20 = .ok (.ineg, 1) := dk_116 (dk_at dksJ15_getChars_0 20 rfl rfl)
theorem dJ15_getChars_21 : decode cJ15_getChars 21 = .ok (.istore_n 0, 1) := dk_59 (dk_at dksJ15_getChars_0 21 rfl rfl)
theorem dJ15_getChars_22 : decode cJ15_getChars 22 = .ok (.iload_n 0, 1) := dk_26 (dk_at dksJ15_getChars_0 22 rfl rfl)
theorem dJ15_getChars_23 : decode cJ15_getChars 23 = .ok (.bipush (-100), 2) := dk_16 156 (dk_at dksJ15_getChars_1 0 rfl rfl)
theorem dJ15_getChars_25 : decode cJ15_getChars 25 = .ok (.if_icmp .gt 47, 3) := dk_163 0 47 (dk_at dksJ15_getChars_1 2 rfl rfl)
theorem dJ15_getChars_28 : decode cJ15_getChars 28 = .ok (.iload_n 0, 1) := dk_26 (dk_at dksJ15_getChars_1 5 rfl rfl)
theorem dJ15_getChars_29 : decode cJ15_getChars 29 = .ok (.bipush 100, 2) := dk_16 100 (dk_at dksJ15_getChars_1 6 rfl rfl)
theorem dJ15_getChars_31 : decode cJ15_getChars 31 = .ok (.idiv, 1) := dk_108 (dk_at dksJ15_getChars_1 8 rfl rfl)
theorem dJ15_getChars_32 : decode cJ15_getChars 32 = .ok (.istore_n 3, 1) := dk_62 (dk_at dksJ15_getChars_1 9 rfl rfl)
theorem dJ15_getChars_33 : decode cJ15_getChars 33 = .ok (.iload_n 3, 1) := dk_29 (dk_at dksJ15_getChars_1 10 rfl rfl)
theorem dJ15_getChars_34 : decode cJ15_getChars 34 = .ok (.bipush 100, 2) := dk_16 100 (dk_at dksJ15_getChars_1 11 rfl rfl)
theorem dJ15_getChars_36 : decode cJ15_getChars 36 = .ok (.imul, 1) := dk_104 (dk_at dksJ15_getChars_1 13 rfl rfl)
theorem dJ15_getChars_37 : decode cJ15_getChars 37 = .ok (.iload_n 0, 1) := dk_26 (dk_at dksJ15_getChars_1 14 rfl rfl)
theorem dJ15_getChars_38 : decode cJ15_getChars 38 = .ok (.isub, 1) := dk_100 (dk_at dksJ15_getChars_1 15 rfl rfl)
theorem dJ15_getChars_39 : decode cJ15_getChars 39 = .ok (.istore 4, 2) := dk_54 4 (dk_at dksJ15_getChars_1 16 rfl rfl)
theorem dJ15_getChars_41 : decode cJ15_getChars 41 = .ok (.iload_n 3, 1) := dk_29 (dk_at dksJ15_getChars_1 18 rfl rfl)
theorem dJ15_getChars_42 : decode cJ15_getChars 42 = .ok (.istore_n 0, 1) := dk_59 (dk_at dksJ15_getChars_1 19 rfl rfl)
theorem dJ15_getChars_43 : decode cJ15_getChars 43 = .ok (.aload_n 2, 1) := dk_44 (dk_at dksJ15_getChars_1 20 rfl rfl)
theorem dJ15_getChars_44 : decode cJ15_getChars 44 = .ok (.iinc 5 (-1), 3) := dk_132 5 255 (dk_at dksJ15_getChars_1 21 rfl rfl)
theorem dJ15_getChars_47 : decode cJ15_getChars 47 = .ok (.iload 5, 2) := dk_21 5 (dk_at dksJ15_getChars_2 0 rfl rfl)
theorem dJ15_getChars_49 : decode cJ15_getChars 49 = .ok (.getstatic 83, 3) := dk_178 0 83 (dk_at dksJ15_getChars_2 2 rfl rfl)
theorem dJ15_getChars_52 : decode cJ15_getChars 52 = .ok (.iload 4, 2) := dk_21 4 (dk_at dksJ15_getChars_2 5 rfl rfl)
theorem dJ15_getChars_54 : decode cJ15_getChars 54 = .ok (.baload, 1) := dk_51 (dk_at dksJ15_getChars_2 7 rfl rfl)
theorem dJ15_getChars_55 : decode cJ15_getChars 55 = .ok (.bastore, 1) := dk_84 (dk_at dksJ15_getChars_2 8 rfl rfl)
theorem dJ15_getChars_56 : decode cJ15_getChars 56 = .ok (.aload_n 2, 1) := dk_44 (dk_at dksJ15_getChars_2 9 rfl rfl)
theorem dJ15_getChars_57 : decode cJ15_getChars 57 = .ok (.iinc 5 (-1), 3) := dk_132 5 255 (dk_at dksJ15_getChars_2 10 rfl rfl)
theorem dJ15_getChars_60 : decode cJ15_getChars 60 = .ok (.iload 5, 2) := dk_21 5 (dk_at dksJ15_getChars_2 13 rfl rfl)
theorem dJ15_getChars_62 : decode cJ15_getChars 62 = .ok (.getstatic 87, 3) := dk_178 0 87 (dk_at dksJ15_getChars_2 15 rfl rfl)
theorem dJ15_getChars_65 : decode cJ15_getChars 65 = .ok (.iload 4, 2) := dk_21 4 (dk_at dksJ15_getChars_2 18 rfl rfl)
theorem dJ15_getChars_67 : decode cJ15_getChars 67 = .ok (.baload, 1) := dk_51 (dk_at dksJ15_getChars_2 20 rfl rfl)
theorem dJ15_getChars_68 : decode cJ15_getChars 68 = .ok (.bastore, 1) := dk_84 (dk_at dksJ15_getChars_2 21 rfl rfl)
theorem dJ15_getChars_69 : decode cJ15_getChars 69 = .ok (.goto (-47), 3) := dk_167 255 209 (dk_at dksJ15_getChars_3 0 rfl rfl)
theorem dJ15_getChars_72 : decode cJ15_getChars 72 = .ok (.aload_n 2, 1) := dk_44 (dk_at dksJ15_getChars_3 3 rfl rfl)
theorem dJ15_getChars_73 : decode cJ15_getChars 73 = .ok (.iinc 5 (-1), 3) := dk_132 5 255 (dk_at dksJ15_getChars_3 4 rfl rfl)
theorem dJ15_getChars_76 : decode cJ15_getChars 76 = .ok (.iload 5, 2) := dk_21 5 (dk_at dksJ15_getChars_3 7 rfl rfl)
theorem dJ15_getChars_78 : decode cJ15_getChars 78 = .ok (.getstatic 83, 3) := dk_178 0 83 (dk_at dksJ15_getChars_3 9 rfl rfl)
theorem dJ15_getChars_81 : decode cJ15_getChars 81 = .ok (.iload_n 0, 1) := dk_26 (dk_at dksJ15_getChars_3 12 rfl rfl)
theorem dJ15_getChars_82 : decode cJ15_getChars 82 = .ok (.ineg, 1) := dk_116 (dk_at dksJ15_getChars_3 13 rfl rfl)
theorem dJ15_getChars_83 : decode cJ15_getChars 83 = .ok (.baload, 1) := dk_51 (dk_at dksJ15_getChars_3 14 rfl rfl)
theorem dJ15_getChars_84 : decode cJ15_getChars 84 = .ok (.bastore, 1) := dk_84 (dk_at dksJ15_getChars_3 15 rfl rfl)
theorem dJ15_getChars_85 : decode cJ15_getChars 85 = .ok (.iload_n 0, 1) := dk_26 (dk_at dksJ15_getChars_3 16 rfl rfl)
theorem dJ15_getChars_86 : decode cJ15_getChars 86 = .ok (.bipush (-9), 2) := dk_16 247 (dk_at dksJ15_getChars_3 17 rfl rfl)
theorem dJ15_getChars_88 : decode cJ15_getChars 88 = .ok (.if_icmp .ge 16, 3) := dk_162 0 16 (dk_at dksJ15_getChars_3 19 rfl rfl)
theorem dJ15_getChars_91 : decode cJ15_getChars 91 = .ok (.aload_n 2, 1) := dk_44 (dk_at dksJ15_getChars_3 22 rfl rfl)
theorem dJ15_getChars_92 : decode cJ15_getChars 92 = .ok (.iinc 5 (-1), 3) := dk_132 5 255 (dk_at dksJ15_getChars_4 0 rfl rfl)
theorem dJ15_getChars_95 : decode cJ15_getChars 95 = .ok (.iload 5, 2) := dk_21 5 (dk_at dksJ15_getChars_4 3 rfl rfl)
theorem dJ15_getChars_97 : decode cJ15_getChars 97 = .ok (.getstatic 87, 3) := dk_178 0 87 (dk_at dksJ15_getChars_4 5 rfl rfl)
theorem dJ15_getChars_100 : decode cJ15_getChars 100 = .ok (.iload_n 0, 1) := dk_26 (dk_at dksJ15_getChars_4 8 rfl rfl)
theorem dJ15_getChars_101 : decode cJ15_getChars 101 = .ok (.ineg, 1) := dk_116 (dk_at dksJ15_getChars_4 9 rfl rfl)
theorem dJ15_getChars_102 : decode cJ15_getChars 102 = .ok (.baload, 1) := dk_51 (dk_at dksJ15_getChars_4 10 rfl rfl)
theorem dJ15_getChars_103 : decode cJ15_getChars 103 = .ok (.bastore, 1) := dk_84 (dk_at dksJ15_getChars_4 11 rfl rfl)
theorem dJ15_getChars_104 : decode cJ15_getChars 104 = .ok (.iload 6, 2) := dk_21 6 (dk_at dksJ15_getChars_4 12 rfl rfl)
theorem dJ15_getChars_106 : decode cJ15_getChars 106 = .ok (.ifCond .eq 12, 3) := dk_153 0 12 (dk_at dksJ15_getChars_4 14 rfl rfl)
theorem dJ15_getChars_109 : decode cJ15_getChars 109 = .ok (.aload_n 2, 1) := dk_44 (dk_at dksJ15_getChars_4 17 rfl rfl)
theorem dJ15_getChars_110 : decode cJ15_getChars 110 = .ok (.iinc 5 (-1), 3) := dk_132 5 255 (dk_at dksJ15_getChars_4 18 rfl rfl)
theorem dJ15_getChars_113 : decode cJ15_getChars 113 = .ok (.iload 5, 2) := dk_21 5 (dk_at dksJ15_getChars_4 21 rfl rfl)
theorem dJ15_getChars_115 : decode cJ15_getChars 115 = .ok (.bipush 45, 2) := dk_16 45 (dk_at dksJ15_getChars_5 0 rfl rfl)
theorem dJ15_getChars_117 : decode cJ15_getChars 117 = .ok (.bastore, 1) := dk_84 (dk_at dksJ15_getChars_5 2 rfl rfl)
theorem dJ15_getChars_118 : decode cJ15_getChars 118 = .ok (.iload 5, 2) := dk_21 5 (dk_at dksJ15_getChars_5 3 rfl rfl)
theorem dJ15_getChars_120 : decode cJ15_getChars 120 = .ok (.ireturn, 1) := dk_172 (dk_at dksJ15_getChars_5 5 rfl rfl)
abbrev cJ15_bitCount : ByteArray := prog_24_method_49_code
def yJ15_bitCount : MethodName := ⟨RJ15, "bitCount", "(I)I"⟩
def dkwJ15_bitCount_2 : List UInt8 := [26, 16, 63, 126, 172]
abbrev dktJ15_bitCount_2 : List UInt8 := dkwJ15_bitCount_2 ++ []
def dkwJ15_bitCount_1 : List UInt8 := [26, 26, 7, 124, 96, 19, 1, 11, 126, 59, 26, 26, 16, 8, 124, 96, 59, 26, 26, 16, 16, 124, 96, 59]
abbrev dktJ15_bitCount_1 : List UInt8 := dkwJ15_bitCount_1 ++ dktJ15_bitCount_2
def dkwJ15_bitCount_0 : List UInt8 := [26, 26, 4, 124, 19, 1, 9, 126, 100, 59, 26, 19, 1, 10, 126, 26, 5, 124, 19, 1, 10, 126, 96, 59]
abbrev dktJ15_bitCount_0 : List UInt8 := dkwJ15_bitCount_0 ++ dktJ15_bitCount_1
theorem dksJ15_bitCount_0 : cJ15_bitCount.data.toList.drop 0 = dktJ15_bitCount_0 := by decide +kernel
theorem dksJ15_bitCount_1 : cJ15_bitCount.data.toList.drop 24 = dktJ15_bitCount_1 := dk_seg dksJ15_bitCount_0 24 rfl rfl
theorem dksJ15_bitCount_2 : cJ15_bitCount.data.toList.drop 48 = dktJ15_bitCount_2 := dk_seg dksJ15_bitCount_1 24 rfl rfl
theorem dJ15_bitCount_0 : decode cJ15_bitCount 0 = .ok (.iload_n 0, 1) := dk_26 (dk_at dksJ15_bitCount_0 0 rfl rfl)
theorem dJ15_bitCount_1 : decode cJ15_bitCount 1 = .ok (.iload_n 0, 1) := dk_26 (dk_at dksJ15_bitCount_0 1 rfl rfl)
theorem dJ15_bitCount_2 : decode cJ15_bitCount 2 = .ok (.iconst 1, 1) := dk_4 (dk_at dksJ15_bitCount_0 2 rfl rfl)
theorem dJ15_bitCount_3 : decode cJ15_bitCount 3 = .ok (.iushr, 1) := dk_124 (dk_at dksJ15_bitCount_0 3 rfl rfl)
theorem dJ15_bitCount_4 : decode cJ15_bitCount 4 = .ok (.ldc_w 265, 3) := dk_19 1 9 (dk_at dksJ15_bitCount_0 4 rfl rfl)
theorem dJ15_bitCount_7 : decode cJ15_bitCount 7 = .ok (.iand, 1) := dk_126 (dk_at dksJ15_bitCount_0 7 rfl rfl)
theorem dJ15_bitCount_8 : decode cJ15_bitCount 8 = .ok (.isub, 1) := dk_100 (dk_at dksJ15_bitCount_0 8 rfl rfl)
theorem dJ15_bitCount_9 : decode cJ15_bitCount 9 = .ok (.istore_n 0, 1) := dk_59 (dk_at dksJ15_bitCount_0 9 rfl rfl)
theorem dJ15_bitCount_10 : decode cJ15_bitCount 10 = .ok (.iload_n 0, 1) := dk_26 (dk_at dksJ15_bitCount_0 10 rfl rfl)
theorem dJ15_bitCount_11 : decode cJ15_bitCount 11 = .ok (.ldc_w 266, 3) := dk_19 1 10 (dk_at dksJ15_bitCount_0 11 rfl rfl)
theorem dJ15_bitCount_14 : decode cJ15_bitCount 14 = .ok (.iand, 1) := dk_126 (dk_at dksJ15_bitCount_0 14 rfl rfl)
theorem dJ15_bitCount_15 : decode cJ15_bitCount 15 = .ok (.iload_n 0, 1) := dk_26 (dk_at dksJ15_bitCount_0 15 rfl rfl)
theorem dJ15_bitCount_16 : decode cJ15_bitCount 16 = .ok (.iconst 2, 1) := dk_5 (dk_at dksJ15_bitCount_0 16 rfl rfl)
theorem dJ15_bitCount_17 : decode cJ15_bitCount 17 = .ok (.iushr, 1) := dk_124 (dk_at dksJ15_bitCount_0 17 rfl rfl)
theorem dJ15_bitCount_18 : decode cJ15_bitCount 18 = .ok (.ldc_w 266, 3) := dk_19 1 10 (dk_at dksJ15_bitCount_0 18 rfl rfl)
theorem dJ15_bitCount_21 : decode cJ15_bitCount 21 = .ok (.iand, 1) := dk_126 (dk_at dksJ15_bitCount_0 21 rfl rfl)
theorem dJ15_bitCount_22 : decode cJ15_bitCount 22 = .ok (.iadd, 1) := dk_96 (dk_at dksJ15_bitCount_0 22 rfl rfl)
theorem dJ15_bitCount_23 : decode cJ15_bitCount 23 = .ok (.istore_n 0, 1) := dk_59 (dk_at dksJ15_bitCount_0 23 rfl rfl)
theorem dJ15_bitCount_24 : decode cJ15_bitCount 24 = .ok (.iload_n 0, 1) := dk_26 (dk_at dksJ15_bitCount_1 0 rfl rfl)
theorem dJ15_bitCount_25 : decode cJ15_bitCount 25 = .ok (.iload_n 0, 1) := dk_26 (dk_at dksJ15_bitCount_1 1 rfl rfl)
theorem dJ15_bitCount_26 : decode cJ15_bitCount 26 = .ok (.iconst 4, 1) := dk_7 (dk_at dksJ15_bitCount_1 2 rfl rfl)
theorem dJ15_bitCount_27 : decode cJ15_bitCount 27 = .ok (.iushr, 1) := dk_124 (dk_at dksJ15_bitCount_1 3 rfl rfl)
theorem dJ15_bitCount_28 : decode cJ15_bitCount 28 = .ok (.iadd, 1) := dk_96 (dk_at dksJ15_bitCount_1 4 rfl rfl)
theorem dJ15_bitCount_29 : decode cJ15_bitCount 29 = .ok (.ldc_w 267, 3) := dk_19 1 11 (dk_at dksJ15_bitCount_1 5 rfl rfl)
theorem dJ15_bitCount_32 : decode cJ15_bitCount 32 = .ok (.iand, 1) := dk_126 (dk_at dksJ15_bitCount_1 8 rfl rfl)
theorem dJ15_bitCount_33 : decode cJ15_bitCount 33 = .ok (.istore_n 0, 1) := dk_59 (dk_at dksJ15_bitCount_1 9 rfl rfl)
theorem dJ15_bitCount_34 : decode cJ15_bitCount 34 = .ok (.iload_n 0, 1) := dk_26 (dk_at dksJ15_bitCount_1 10 rfl rfl)
theorem dJ15_bitCount_35 : decode cJ15_bitCount 35 = .ok (.iload_n 0, 1) := dk_26 (dk_at dksJ15_bitCount_1 11 rfl rfl)
theorem dJ15_bitCount_36 : decode cJ15_bitCount 36 = .ok (.bipush 8, 2) := dk_16 8 (dk_at dksJ15_bitCount_1 12 rfl rfl)
theorem dJ15_bitCount_38 : decode cJ15_bitCount 38 = .ok (.iushr, 1) := dk_124 (dk_at dksJ15_bitCount_1 14 rfl rfl)
theorem dJ15_bitCount_39 : decode cJ15_bitCount 39 = .ok (.iadd, 1) := dk_96 (dk_at dksJ15_bitCount_1 15 rfl rfl)
theorem dJ15_bitCount_40 : decode cJ15_bitCount 40 = .ok (.istore_n 0, 1) := dk_59 (dk_at dksJ15_bitCount_1 16 rfl rfl)
theorem dJ15_bitCount_41 : decode cJ15_bitCount 41 = .ok (.iload_n 0, 1) := dk_26 (dk_at dksJ15_bitCount_1 17 rfl rfl)
theorem dJ15_bitCount_42 : decode cJ15_bitCount 42 = .ok (.iload_n 0, 1) := dk_26 (dk_at dksJ15_bitCount_1 18 rfl rfl)
theorem dJ15_bitCount_43 : decode cJ15_bitCount 43 = .ok (.bipush 16, 2) := dk_16 16 (dk_at dksJ15_bitCount_1 19 rfl rfl)
theorem dJ15_bitCount_45 : decode cJ15_bitCount 45 = .ok (.iushr, 1) := dk_124 (dk_at dksJ15_bitCount_1 21 rfl rfl)
theorem dJ15_bitCount_46 : decode cJ15_bitCount 46 = .ok (.iadd, 1) := dk_96 (dk_at dksJ15_bitCount_1 22 rfl rfl)
theorem dJ15_bitCount_47 : decode cJ15_bitCount 47 = .ok (.istore_n 0, 1) := dk_59 (dk_at dksJ15_bitCount_1 23 rfl rfl)
theorem dJ15_bitCount_48 : decode cJ15_bitCount 48 = .ok (.iload_n 0, 1) := dk_26 (dk_at dksJ15_bitCount_2 0 rfl rfl)
theorem dJ15_bitCount_49 : decode cJ15_bitCount 49 = .ok (.bipush 63, 2) := dk_16 63 (dk_at dksJ15_bitCount_2 1 rfl rfl)
theorem dJ15_bitCount_51 : decode cJ15_bitCount 51 = .ok (.iand, 1) := dk_126 (dk_at dksJ15_bitCount_2 3 rfl rfl)
theorem dJ15_bitCount_52 : decode cJ15_bitCount 52 = .ok (.ireturn, 1) := dk_172 (dk_at dksJ15_bitCount_2 4 rfl rfl)
abbrev cJ15_numberOfTrailingZeros : ByteArray := prog_24_method_48_code
def yJ15_numberOfTrailingZeros : MethodName := ⟨RJ15, "numberOfTrailingZeros", "(I)I"⟩
def dkwJ15_numberOfTrailingZeros_3 : List UInt8 := [5, 124, 59, 27, 26, 4, 124, 96, 172]
abbrev dktJ15_numberOfTrailingZeros_3 : List UInt8 := dkwJ15_numberOfTrailingZeros_3 ++ []
def dkwJ15_numberOfTrailingZeros_2 : List UInt8 := [124, 59, 26, 16, 16, 164, 0, 10, 132, 1, 4, 26, 7, 124, 59, 26, 7, 164, 0, 10, 132, 1, 2, 26]
abbrev dktJ15_numberOfTrailingZeros_2 : List UInt8 := dkwJ15_numberOfTrailingZeros_2 ++ dktJ15_numberOfTrailingZeros_3
def dkwJ15_numberOfTrailingZeros_1 : List UInt8 := [164, 0, 11, 132, 1, 16, 26, 16, 16, 124, 59, 26, 17, 1, 0, 164, 0, 11, 132, 1, 8, 26, 16, 8]
abbrev dktJ15_numberOfTrailingZeros_1 : List UInt8 := dkwJ15_numberOfTrailingZeros_1 ++ dktJ15_numberOfTrailingZeros_2
def dkwJ15_numberOfTrailingZeros_0 : List UInt8 := [26, 2, 130, 26, 4, 100, 126, 59, 26, 157, 0, 8, 26, 16, 32, 126, 172, 4, 60, 26, 19, 1, 8]
abbrev dktJ15_numberOfTrailingZeros_0 : List UInt8 := dkwJ15_numberOfTrailingZeros_0 ++ dktJ15_numberOfTrailingZeros_1
theorem dksJ15_numberOfTrailingZeros_0 : cJ15_numberOfTrailingZeros.data.toList.drop 0 = dktJ15_numberOfTrailingZeros_0 := by decide +kernel
theorem dksJ15_numberOfTrailingZeros_1 : cJ15_numberOfTrailingZeros.data.toList.drop 23 = dktJ15_numberOfTrailingZeros_1 := dk_seg dksJ15_numberOfTrailingZeros_0 23 rfl rfl
theorem dksJ15_numberOfTrailingZeros_2 : cJ15_numberOfTrailingZeros.data.toList.drop 47 = dktJ15_numberOfTrailingZeros_2 := dk_seg dksJ15_numberOfTrailingZeros_1 24 rfl rfl
theorem dksJ15_numberOfTrailingZeros_3 : cJ15_numberOfTrailingZeros.data.toList.drop 71 = dktJ15_numberOfTrailingZeros_3 := dk_seg dksJ15_numberOfTrailingZeros_2 24 rfl rfl
theorem dJ15_numberOfTrailingZeros_0 : decode cJ15_numberOfTrailingZeros 0 = .ok (.iload_n 0, 1) := dk_26 (dk_at dksJ15_numberOfTrailingZeros_0 0 rfl rfl)
theorem dJ15_numberOfTrailingZeros_1 : decode cJ15_numberOfTrailingZeros 1 = .ok (.iconst (-1), 1) := dk_2 (dk_at dksJ15_numberOfTrailingZeros_0 1 rfl rfl)
theorem dJ15_numberOfTrailingZeros_2 : decode cJ15_numberOfTrailingZeros 2 = .ok (.ixor, 1) := dk_130 (dk_at dksJ15_numberOfTrailingZeros_0 2 rfl rfl)
theorem dJ15_numberOfTrailingZeros_3 : decode cJ15_numberOfTrailingZeros 3 = .ok (.iload_n 0, 1) := dk_26 (dk_at dksJ15_numberOfTrailingZeros_0 3 rfl rfl)
theorem dJ15_numberOfTrailingZeros_4 : decode cJ15_numberOfTrailingZeros 4 = .ok (.iconst 1, 1) := dk_4 (dk_at dksJ15_numberOfTrailingZeros_0 4 rfl rfl)
theorem dJ15_numberOfTrailingZeros_5 : decode cJ15_numberOfTrailingZeros 5 = .ok (.isub, 1) := dk_100 (dk_at dksJ15_numberOfTrailingZeros_0 5 rfl rfl)
theorem dJ15_numberOfTrailingZeros_6 : decode cJ15_numberOfTrailingZeros 6 = .ok (.iand, 1) := dk_126 (dk_at dksJ15_numberOfTrailingZeros_0 6 rfl rfl)
theorem dJ15_numberOfTrailingZeros_7 : decode cJ15_numberOfTrailingZeros 7 = .ok (.istore_n 0, 1) := dk_59 (dk_at dksJ15_numberOfTrailingZeros_0 7 rfl rfl)
theorem dJ15_numberOfTrailingZeros_8 : decode cJ15_numberOfTrailingZeros 8 = .ok (.iload_n 0, 1) := dk_26 (dk_at dksJ15_numberOfTrailingZeros_0 8 rfl rfl)
theorem dJ15_numberOfTrailingZeros_9 : decode cJ15_numberOfTrailingZeros 9 = .ok (.ifCond .gt 8, 3) := dk_157 0 8 (dk_at dksJ15_numberOfTrailingZeros_0 9 rfl rfl)
theorem dJ15_numberOfTrailingZeros_12 : decode cJ15_numberOfTrailingZeros 12 = .ok (.iload_n 0, 1) := dk_26 (dk_at dksJ15_numberOfTrailingZeros_0 12 rfl rfl)
theorem dJ15_numberOfTrailingZeros_13 : decode cJ15_numberOfTrailingZeros 13 = .ok (.bipush 32, 2) := dk_16 32 (dk_at dksJ15_numberOfTrailingZeros_0 13 rfl rfl)
theorem dJ15_numberOfTrailingZeros_15 : decode cJ15_numberOfTrailingZeros 15 = .ok (.iand, 1) := dk_126 (dk_at dksJ15_numberOfTrailingZeros_0 15 rfl rfl)
theorem dJ15_numberOfTrailingZeros_16 : decode cJ15_numberOfTrailingZeros 16 = .ok (.ireturn, 1) := dk_172 (dk_at dksJ15_numberOfTrailingZeros_0 16 rfl rfl)
theorem dJ15_numberOfTrailingZeros_17 : decode cJ15_numberOfTrailingZeros 17 = .ok (.iconst 1, 1) := dk_4 (dk_at dksJ15_numberOfTrailingZeros_0 17 rfl rfl)
theorem dJ15_numberOfTrailingZeros_18 : decode cJ15_numberOfTrailingZeros 18 = .ok (.istore_n 1, 1) := dk_60 (dk_at dksJ15_numberOfTrailingZeros_0 18 rfl rfl)
theorem dJ15_numberOfTrailingZeros_19 : decode cJ15_numberOfTrailingZeros 19 = .ok (.iload_n 0, 1) := dk_26 (dk_at dksJ15_numberOfTrailingZeros_0 19 rfl rfl)
theorem dJ15_numberOfTrailingZeros_20 : decode cJ15_numberOfTrailingZeros 20 = .ok (.ldc_w 264, 3) := dk_19 1 8 (dk_at dksJ15_numberOfTrailingZeros_0 20 rfl rfl)
theorem dJ15_numberOfTrailingZeros_23 : decode cJ15_numberOfTrailingZeros 23 = .ok (.if_icmp .le 11, 3) := dk_164 0 11 (dk_at dksJ15_numberOfTrailingZeros_1 0 rfl rfl)
theorem dJ15_numberOfTrailingZeros_26 : decode cJ15_numberOfTrailingZeros 26 = .ok (.iinc 1 16, 3) := dk_132 1 16 (dk_at dksJ15_numberOfTrailingZeros_1 3 rfl rfl)
theorem dJ15_numberOfTrailingZeros_29 : decode cJ15_numberOfTrailingZeros 29 = .ok (.iload_n 0, 1) := dk_26 (dk_at dksJ15_numberOfTrailingZeros_1 6 rfl rfl)
theorem dJ15_numberOfTrailingZeros_30 : decode cJ15_numberOfTrailingZeros 30 = .ok (.bipush 16, 2) := dk_16 16 (dk_at dksJ15_numberOfTrailingZeros_1 7 rfl rfl)
theorem dJ15_numberOfTrailingZeros_32 : decode cJ15_numberOfTrailingZeros 32 = .ok (.iushr, 1) := dk_124 (dk_at dksJ15_numberOfTrailingZeros_1 9 rfl rfl)
theorem dJ15_numberOfTrailingZeros_33 : decode cJ15_numberOfTrailingZeros 33 = .ok (.istore_n 0, 1) := dk_59 (dk_at dksJ15_numberOfTrailingZeros_1 10 rfl rfl)
theorem dJ15_numberOfTrailingZeros_34 : decode cJ15_numberOfTrailingZeros 34 = .ok (.iload_n 0, 1) := dk_26 (dk_at dksJ15_numberOfTrailingZeros_1 11 rfl rfl)
theorem dJ15_numberOfTrailingZeros_35 : decode cJ15_numberOfTrailingZeros 35 = .ok (.sipush 256, 3) := dk_17 1 0 (dk_at dksJ15_numberOfTrailingZeros_1 12 rfl rfl)
theorem dJ15_numberOfTrailingZeros_38 : decode cJ15_numberOfTrailingZeros 38 = .ok (.if_icmp .le 11, 3) := dk_164 0 11 (dk_at dksJ15_numberOfTrailingZeros_1 15 rfl rfl)
theorem dJ15_numberOfTrailingZeros_41 : decode cJ15_numberOfTrailingZeros 41 = .ok (.iinc 1 8, 3) := dk_132 1 8 (dk_at dksJ15_numberOfTrailingZeros_1 18 rfl rfl)
theorem dJ15_numberOfTrailingZeros_44 : decode cJ15_numberOfTrailingZeros 44 = .ok (.iload_n 0, 1) := dk_26 (dk_at dksJ15_numberOfTrailingZeros_1 21 rfl rfl)
theorem dJ15_numberOfTrailingZeros_45 : decode cJ15_numberOfTrailingZeros 45 = .ok (.bipush 8, 2) := dk_16 8 (dk_at dksJ15_numberOfTrailingZeros_1 22 rfl rfl)
theorem dJ15_numberOfTrailingZeros_47 : decode cJ15_numberOfTrailingZeros 47 = .ok (.iushr, 1) := dk_124 (dk_at dksJ15_numberOfTrailingZeros_2 0 rfl rfl)
theorem dJ15_numberOfTrailingZeros_48 : decode cJ15_numberOfTrailingZeros 48 = .ok (.istore_n 0, 1) := dk_59 (dk_at dksJ15_numberOfTrailingZeros_2 1 rfl rfl)
theorem dJ15_numberOfTrailingZeros_49 : decode cJ15_numberOfTrailingZeros 49 = .ok (.iload_n 0, 1) := dk_26 (dk_at dksJ15_numberOfTrailingZeros_2 2 rfl rfl)
theorem dJ15_numberOfTrailingZeros_50 : decode cJ15_numberOfTrailingZeros 50 = .ok (.bipush 16, 2) := dk_16 16 (dk_at dksJ15_numberOfTrailingZeros_2 3 rfl rfl)
theorem dJ15_numberOfTrailingZeros_52 : decode cJ15_numberOfTrailingZeros 52 = .ok (.if_icmp .le 10, 3) := dk_164 0 10 (dk_at dksJ15_numberOfTrailingZeros_2 5 rfl rfl)
theorem dJ15_numberOfTrailingZeros_55 : decode cJ15_numberOfTrailingZeros 55 = .ok (.iinc 1 4, 3) := dk_132 1 4 (dk_at dksJ15_numberOfTrailingZeros_2 8 rfl rfl)
theorem dJ15_numberOfTrailingZeros_58 : decode cJ15_numberOfTrailingZeros 58 = .ok (.iload_n 0, 1) := dk_26 (dk_at dksJ15_numberOfTrailingZeros_2 11 rfl rfl)
theorem dJ15_numberOfTrailingZeros_59 : decode cJ15_numberOfTrailingZeros 59 = .ok (.iconst 4, 1) := dk_7 (dk_at dksJ15_numberOfTrailingZeros_2 12 rfl rfl)
theorem dJ15_numberOfTrailingZeros_60 : decode cJ15_numberOfTrailingZeros 60 = .ok (.iushr, 1) := dk_124 (dk_at dksJ15_numberOfTrailingZeros_2 13 rfl rfl)
theorem dJ15_numberOfTrailingZeros_61 : decode cJ15_numberOfTrailingZeros 61 = .ok (.istore_n 0, 1) := dk_59 (dk_at dksJ15_numberOfTrailingZeros_2 14 rfl rfl)
theorem dJ15_numberOfTrailingZeros_62 : decode cJ15_numberOfTrailingZeros 62 = .ok (.iload_n 0, 1) := dk_26 (dk_at dksJ15_numberOfTrailingZeros_2 15 rfl rfl)
theorem dJ15_numberOfTrailingZeros_63 : decode cJ15_numberOfTrailingZeros 63 = .ok (.iconst 4, 1) := dk_7 (dk_at dksJ15_numberOfTrailingZeros_2 16 rfl rfl)
theorem dJ15_numberOfTrailingZeros_64 : decode cJ15_numberOfTrailingZeros 64 = .ok (.if_icmp .le 10, 3) := dk_164 0 10 (dk_at dksJ15_numberOfTrailingZeros_2 17 rfl rfl)
theorem dJ15_numberOfTrailingZeros_67 : decode cJ15_numberOfTrailingZeros 67 = .ok (.iinc 1 2, 3) := dk_132 1 2 (dk_at dksJ15_numberOfTrailingZeros_2 20 rfl rfl)
theorem dJ15_numberOfTrailingZeros_70 : decode cJ15_numberOfTrailingZeros 70 = .ok (.iload_n 0, 1) := dk_26 (dk_at dksJ15_numberOfTrailingZeros_2 23 rfl rfl)
theorem dJ15_numberOfTrailingZeros_71 : decode cJ15_numberOfTrailingZeros 71 = .ok (.iconst 2, 1) := dk_5 (dk_at dksJ15_numberOfTrailingZeros_3 0 rfl rfl)
theorem dJ15_numberOfTrailingZeros_72 : decode cJ15_numberOfTrailingZeros 72 = .ok (.iushr, 1) := dk_124 (dk_at dksJ15_numberOfTrailingZeros_3 1 rfl rfl)
theorem dJ15_numberOfTrailingZeros_73 : decode cJ15_numberOfTrailingZeros 73 = .ok (.istore_n 0, 1) := dk_59 (dk_at dksJ15_numberOfTrailingZeros_3 2 rfl rfl)
theorem dJ15_numberOfTrailingZeros_74 : decode cJ15_numberOfTrailingZeros 74 = .ok (.iload_n 1, 1) := dk_27 (dk_at dksJ15_numberOfTrailingZeros_3 3 rfl rfl)
theorem dJ15_numberOfTrailingZeros_75 : decode cJ15_numberOfTrailingZeros 75 = .ok (.iload_n 0, 1) := dk_26 (dk_at dksJ15_numberOfTrailingZeros_3 4 rfl rfl)
theorem dJ15_numberOfTrailingZeros_76 : decode cJ15_numberOfTrailingZeros 76 = .ok (.iconst 1, 1) := dk_4 (dk_at dksJ15_numberOfTrailingZeros_3 5 rfl rfl)
theorem dJ15_numberOfTrailingZeros_77 : decode cJ15_numberOfTrailingZeros 77 = .ok (.iushr, 1) := dk_124 (dk_at dksJ15_numberOfTrailingZeros_3 6 rfl rfl)
theorem dJ15_numberOfTrailingZeros_78 : decode cJ15_numberOfTrailingZeros 78 = .ok (.iadd, 1) := dk_96 (dk_at dksJ15_numberOfTrailingZeros_3 7 rfl rfl)
theorem dJ15_numberOfTrailingZeros_79 : decode cJ15_numberOfTrailingZeros 79 = .ok (.ireturn, 1) := dk_172 (dk_at dksJ15_numberOfTrailingZeros_3 8 rfl rfl)
theorem q137 : (Jvm.Cond.initialized "java/lang/Integer") ∈ lw_all := lw_g (lw_at lw_m1 22 rfl) rfl
theorem q434 : (Jvm.Cond.static ({ cls := "java/lang/Integer", name := "stringSize", desc := "(I)I" } : Jvm.MethodName)) ∈ lw_all := lw_g (lw_at lw_m2 79 rfl) rfl
theorem q435 : (Jvm.Cond.code ({ cls := "java/lang/Integer", name := "stringSize", desc := "(I)I" } : Jvm.MethodName) prog_24_method_13_code (4 : Nat) (Option.some Jvm.ClassFile.FieldType.int)) ∈ lw_all := lw_g (lw_at lw_m2 80 rfl) rfl
theorem q477 : (Jvm.Cond.static ({ cls := "java/lang/Integer", name := "getChars", desc := "(II[B)I" } : Jvm.MethodName)) ∈ lw_all := lw_g (lw_at lw_m2 122 rfl) rfl
theorem q478 : (Jvm.Cond.code ({ cls := "java/lang/Integer", name := "getChars", desc := "(II[B)I" } : Jvm.MethodName) prog_24_method_12_code (7 : Nat) (Option.some Jvm.ClassFile.FieldType.int)) ∈ lw_all := lw_g (lw_at lw_m2 123 rfl) rfl
theorem q479 : (Jvm.Cond.fieldLink "java/lang/Integer" (83 : Nat) "java/lang/Integer" "DigitOnes" "[B") ∈ lw_all := lw_g (lw_at lw_m2 124 rfl) rfl
theorem q480 : (Jvm.Cond.laysStatic "java/lang/Integer" "DigitOnes" "[B") ∈ lw_tbl := lw_at lw_m2 125 rfl
theorem q481 : (Jvm.Cond.fieldLink "java/lang/Integer" (87 : Nat) "java/lang/Integer" "DigitTens" "[B") ∈ lw_all := lw_g (lw_at lw_m2 126 rfl) rfl
theorem q482 : (Jvm.Cond.laysStatic "java/lang/Integer" "DigitTens" "[B") ∈ lw_tbl := lw_at lw_m2 127 rfl
theorem q1010 : (Jvm.Cond.static ({ cls := "java/lang/Integer", name := "bitCount", desc := "(I)I" } : Jvm.MethodName)) ∈ lw_all := lw_g (lw_at lw_m4 175 rfl) rfl
theorem q1011 : (Jvm.Cond.code ({ cls := "java/lang/Integer", name := "bitCount", desc := "(I)I" } : Jvm.MethodName) prog_24_method_49_code (1 : Nat) (Option.some Jvm.ClassFile.FieldType.int)) ∈ lw_all := lw_g (lw_at lw_m4 176 rfl) rfl
theorem q1012 : (Jvm.Cond.constant "java/lang/Integer" (265 : Nat) (1431655765 : Int32)) ∈ lw_all := lw_g (lw_at lw_m4 177 rfl) rfl
theorem q1013 : (Jvm.Cond.constant "java/lang/Integer" (266 : Nat) (858993459 : Int32)) ∈ lw_all := lw_g (lw_at lw_m4 178 rfl) rfl
theorem q1014 : (Jvm.Cond.constant "java/lang/Integer" (267 : Nat) (252645135 : Int32)) ∈ lw_all := lw_g (lw_at lw_m4 179 rfl) rfl
theorem q1557 : (Jvm.Cond.static ({ cls := "java/lang/Integer", name := "numberOfTrailingZeros", desc := "(I)I" } : Jvm.MethodName)) ∈ lw_all := lw_g (lw_at lw_m7 2 rfl) rfl
theorem q1558 : (Jvm.Cond.code ({ cls := "java/lang/Integer", name := "numberOfTrailingZeros", desc := "(I)I" } : Jvm.MethodName) prog_24_method_48_code (2 : Nat) (Option.some Jvm.ClassFile.FieldType.int)) ∈ lw_all := lw_g (lw_at lw_m7 3 rfl) rfl
theorem q1559 : (Jvm.Cond.constant "java/lang/Integer" (264 : Nat) (65536 : Int32)) ∈ lw_all := lw_g (lw_at lw_m7 4 rfl) rfl

/-! jdk/internal/util/ArraysSupport -/
set_option maxRecDepth 100000
def RJ16 : String := "jdk/internal/util/ArraysSupport"
abbrev cJ16_newLength : ByteArray := prog_56_method_27_code
def yJ16_newLength : MethodName := ⟨RJ16, "newLength", "(III)I"⟩
def dkwJ16_newLength_1 : List UInt8 := [184, 0, 201, 172]
abbrev dktJ16_newLength_1 : List UInt8 := dkwJ16_newLength_1 ++ []
def dkwJ16_newLength_0 : List UInt8 := [26, 27, 28, 184, 0, 194, 96, 62, 3, 29, 162, 0, 11, 29, 18, 200, 163, 0, 5, 29, 172, 26, 27]
abbrev dktJ16_newLength_0 : List UInt8 := dkwJ16_newLength_0 ++ dktJ16_newLength_1
theorem dksJ16_newLength_0 : cJ16_newLength.data.toList.drop 0 = dktJ16_newLength_0 := by decide +kernel
theorem dksJ16_newLength_1 : cJ16_newLength.data.toList.drop 23 = dktJ16_newLength_1 := dk_seg dksJ16_newLength_0 23 rfl rfl
theorem dJ16_newLength_0 : decode cJ16_newLength 0 = .ok (.iload_n 0, 1) := dk_26 (dk_at dksJ16_newLength_0 0 rfl rfl)
theorem dJ16_newLength_1 : decode cJ16_newLength 1 = .ok (.iload_n 1, 1) := dk_27 (dk_at dksJ16_newLength_0 1 rfl rfl)
theorem dJ16_newLength_2 : decode cJ16_newLength 2 = .ok (.iload_n 2, 1) := dk_28 (dk_at dksJ16_newLength_0 2 rfl rfl)
theorem dJ16_newLength_3 : decode cJ16_newLength 3 = .ok (.invokestatic 194, 3) := dk_184 0 194 (dk_at dksJ16_newLength_0 3 rfl rfl)
theorem dJ16_newLength_6 : decode cJ16_newLength 6 = .ok (.iadd, 1) := dk_96 (dk_at dksJ16_newLength_0 6 rfl rfl)
theorem dJ16_newLength_7 : decode cJ16_newLength 7 = .ok (.istore_n 3, 1) := dk_62 (dk_at dksJ16_newLength_0 7 rfl rfl)
theorem dJ16_newLength_8 : decode cJ16_newLength 8 = .ok (.iconst 0, 1) := dk_3 (dk_at dksJ16_newLength_0 8 rfl rfl)
theorem dJ16_newLength_9 : decode cJ16_newLength 9 = .ok (.iload_n 3, 1) := dk_29 (dk_at dksJ16_newLength_0 9 rfl rfl)
theorem dJ16_newLength_10 : decode cJ16_newLength 10 = .ok (.if_icmp .ge 11, 3) := dk_162 0 11 (dk_at dksJ16_newLength_0 10 rfl rfl)
theorem dJ16_newLength_13 : decode cJ16_newLength 13 = .ok (.iload_n 3, 1) := dk_29 (dk_at dksJ16_newLength_0 13 rfl rfl)
theorem dJ16_newLength_14 : decode cJ16_newLength 14 = .ok (.ldc 200, 2) := dk_18 200 (dk_at dksJ16_newLength_0 14 rfl rfl)
theorem dJ16_newLength_16 : decode cJ16_newLength 16 = .ok (.if_icmp .gt 5, 3) := dk_163 0 5 (dk_at dksJ16_newLength_0 16 rfl rfl)
theorem dJ16_newLength_19 : decode cJ16_newLength 19 = .ok (.iload_n 3, 1) := dk_29 (dk_at dksJ16_newLength_0 19 rfl rfl)
theorem dJ16_newLength_20 : decode cJ16_newLength 20 = .ok (.ireturn, 1) := dk_172 (dk_at dksJ16_newLength_0 20 rfl rfl)
theorem dJ16_newLength_21 : decode cJ16_newLength 21 = .ok (.iload_n 0, 1) := dk_26 (dk_at dksJ16_newLength_0 21 rfl rfl)
theorem dJ16_newLength_22 : decode cJ16_newLength 22 = .ok (.iload_n 1, 1) := dk_27 (dk_at dksJ16_newLength_0 22 rfl rfl)
theorem dJ16_newLength_23 : decode cJ16_newLength 23 = .ok (.invokestatic 201, 3) := dk_184 0 201 (dk_at dksJ16_newLength_1 0 rfl rfl)
theorem dJ16_newLength_26 : decode cJ16_newLength 26 = .ok (.ireturn, 1) := dk_172 (dk_at dksJ16_newLength_1 3 rfl rfl)
abbrev cJ16_hugeLength : ByteArray := prog_56_method_28_code
def yJ16_hugeLength : MethodName := ⟨RJ16, "hugeLength", "(II)I"⟩
def dkwJ16_hugeLength_2 : List UInt8 := [191, 28, 18, 200, 163, 0, 6, 18, 200, 172, 28, 172]
abbrev dktJ16_hugeLength_2 : List UInt8 := dkwJ16_hugeLength_2 ++ []
def dkwJ16_hugeLength_1 : List UInt8 := [26, 182, 0, 98, 18, 208, 182, 0, 94, 27, 182, 0, 98, 18, 210, 182, 0, 94, 182, 0, 101, 183, 0, 212]
abbrev dktJ16_hugeLength_1 : List UInt8 := dkwJ16_hugeLength_1 ++ dktJ16_hugeLength_2
def dkwJ16_hugeLength_0 : List UInt8 := [26, 27, 96, 61, 28, 156, 0, 44, 187, 0, 204, 89, 187, 0, 89, 89, 183, 0, 91, 18, 206, 182, 0, 94]
abbrev dktJ16_hugeLength_0 : List UInt8 := dkwJ16_hugeLength_0 ++ dktJ16_hugeLength_1
theorem dksJ16_hugeLength_0 : cJ16_hugeLength.data.toList.drop 0 = dktJ16_hugeLength_0 := by decide +kernel
theorem dksJ16_hugeLength_1 : cJ16_hugeLength.data.toList.drop 24 = dktJ16_hugeLength_1 := dk_seg dksJ16_hugeLength_0 24 rfl rfl
theorem dksJ16_hugeLength_2 : cJ16_hugeLength.data.toList.drop 48 = dktJ16_hugeLength_2 := dk_seg dksJ16_hugeLength_1 24 rfl rfl
theorem dJ16_hugeLength_0 : decode cJ16_hugeLength 0 = .ok (.iload_n 0, 1) := dk_26 (dk_at dksJ16_hugeLength_0 0 rfl rfl)
theorem dJ16_hugeLength_1 : decode cJ16_hugeLength 1 = .ok (.iload_n 1, 1) := dk_27 (dk_at dksJ16_hugeLength_0 1 rfl rfl)
theorem dJ16_hugeLength_2 : decode cJ16_hugeLength 2 = .ok (.iadd, 1) := dk_96 (dk_at dksJ16_hugeLength_0 2 rfl rfl)
theorem dJ16_hugeLength_3 : decode cJ16_hugeLength 3 = .ok (.istore_n 2, 1) := dk_61 (dk_at dksJ16_hugeLength_0 3 rfl rfl)
theorem dJ16_hugeLength_4 : decode cJ16_hugeLength 4 = .ok (.iload_n 2, 1) := dk_28 (dk_at dksJ16_hugeLength_0 4 rfl rfl)
theorem dJ16_hugeLength_5 : decode cJ16_hugeLength 5 = .ok (.ifCond .ge 44, 3) := dk_156 0 44 (dk_at dksJ16_hugeLength_0 5 rfl rfl)
theorem dJ16_hugeLength_8 : decode cJ16_hugeLength 8 = .ok (.new 204, 3) := dk_187 0 204 (dk_at dksJ16_hugeLength_0 8 rfl rfl)
theorem dJ16_hugeLength_11 : decode cJ16_hugeLength 11 = .ok (.dup, 1) := dk_89 (dk_at dksJ16_hugeLength_0 11 rfl rfl)
theorem dJ16_hugeLength_12 : decode cJ16_hugeLength 12 = .ok (.new 89, 3) := dk_187 0 89 (dk_at dksJ16_hugeLength_0 12 rfl rfl)
theorem dJ16_hugeLength_15 : decode cJ16_hugeLength 15 = .ok (.dup, 1) := dk_89 (dk_at dksJ16_hugeLength_0 15 rfl rfl)
theorem dJ16_hugeLength_16 : decode cJ16_hugeLength 16 = .ok (.invokespecial 91, 3) := dk_183 0 91 (dk_at dksJ16_hugeLength_0 16 rfl rfl)
theorem dJ16_hugeLength_19 : decode cJ16_hugeLength 19 = .ok (.ldc 206, 2) := dk_18 206 (dk_at dksJ16_hugeLength_0 19 rfl rfl)
theorem dJ16_hugeLength_21 : decode cJ16_hugeLength 21 = .ok (.invokevirtual 94, 3) := dk_182 0 94 (dk_at dksJ16_hugeLength_0 21 rfl rfl)
theorem dJ16_hugeLength_24 : decode cJ16_hugeLength 24 = .ok (.iload_n 0, 1) := dk_26 (dk_at dksJ16_hugeLength_1 0 rfl rfl)
theorem dJ16_hugeLength_25 : decode cJ16_hugeLength 25 = .ok (.invokevirtual 98, 3) := dk_182 0 98 (dk_at dksJ16_hugeLength_1 1 rfl rfl)
theorem dJ16_hugeLength_28 : decode cJ16_hugeLength 28 = .ok (.ldc 208, 2) := dk_18 208 (dk_at dksJ16_hugeLength_1 4 rfl rfl)
theorem dJ16_hugeLength_30 : decode cJ16_hugeLength 30 = .ok (.invokevirtual 94, 3) := dk_182 0 94 (dk_at dksJ16_hugeLength_1 6 rfl rfl)
theorem dJ16_hugeLength_33 : decode cJ16_hugeLength 33 = .ok (.iload_n 1, 1) := dk_27 (dk_at dksJ16_hugeLength_1 9 rfl rfl)
theorem dJ16_hugeLength_34 : decode cJ16_hugeLength 34 = .ok (.invokevirtual 98, 3) := dk_182 0 98 (dk_at dksJ16_hugeLength_1 10 rfl rfl)
theorem dJ16_hugeLength_37 : decode cJ16_hugeLength 37 = .ok (.ldc 210, 2) := dk_18 210 (dk_at dksJ16_hugeLength_1 13 rfl rfl)
theorem dJ16_hugeLength_39 : decode cJ16_hugeLength 39 = .ok (.invokevirtual 94, 3) := dk_182 0 94 (dk_at dksJ16_hugeLength_1 15 rfl rfl)
theorem dJ16_hugeLength_42 : decode cJ16_hugeLength 42 = .ok (.invokevirtual 101, 3) := dk_182 0 101 (dk_at dksJ16_hugeLength_1 18 rfl rfl)
theorem dJ16_hugeLength_45 : decode cJ16_hugeLength 45 = .ok (.invokespecial 212, 3) := dk_183 0 212 (dk_at dksJ16_hugeLength_1 21 rfl rfl)
theorem dJ16_hugeLength_48 : decode cJ16_hugeLength 48 = .ok (.athrow, 1) := dk_191 (dk_at dksJ16_hugeLength_2 0 rfl rfl)
theorem dJ16_hugeLength_49 : decode cJ16_hugeLength 49 = .ok (.iload_n 2, 1) := dk_28 (dk_at dksJ16_hugeLength_2 1 rfl rfl)
theorem dJ16_hugeLength_50 : decode cJ16_hugeLength 50 = .ok (.ldc 200, 2) := dk_18 200 (dk_at dksJ16_hugeLength_2 2 rfl rfl)
theorem dJ16_hugeLength_52 : decode cJ16_hugeLength 52 = .ok (.if_icmp .gt 6, 3) := dk_163 0 6 (dk_at dksJ16_hugeLength_2 4 rfl rfl)
theorem dJ16_hugeLength_55 : decode cJ16_hugeLength 55 = .ok (.ldc 200, 2) := dk_18 200 (dk_at dksJ16_hugeLength_2 7 rfl rfl)
theorem dJ16_hugeLength_57 : decode cJ16_hugeLength 57 = .ok (.ireturn, 1) := dk_172 (dk_at dksJ16_hugeLength_2 9 rfl rfl)
theorem dJ16_hugeLength_58 : decode cJ16_hugeLength 58 = .ok (.iload_n 2, 1) := dk_28 (dk_at dksJ16_hugeLength_2 10 rfl rfl)
theorem dJ16_hugeLength_59 : decode cJ16_hugeLength 59 = .ok (.ireturn, 1) := dk_172 (dk_at dksJ16_hugeLength_2 11 rfl rfl)
abbrev cJ16_vectorizedHashCode : ByteArray := prog_56_method_4_code
def yJ16_vectorizedHashCode : MethodName := ⟨RJ16, "vectorizedHashCode", "(Ljava/lang/Object;IIII)I"⟩
def dkwJ16_vectorizedHashCode_6 : List UInt8 := [183, 0, 91, 18, 92, 182, 0, 94, 21, 4, 182, 0, 98, 182, 0, 101, 183, 0, 105, 191, 172]
abbrev dktJ16_vectorizedHashCode_6 : List UInt8 := dkwJ16_vectorizedHashCode_6 ++ []
def dkwJ16_vectorizedHashCode_5 : List UInt8 := [167, 0, 44, 29, 42, 192, 0, 82, 27, 28, 184, 0, 84, 167, 0, 31, 187, 0, 87, 89, 187, 0, 89, 89]
abbrev dktJ16_vectorizedHashCode_5 : List UInt8 := dkwJ16_vectorizedHashCode_5 ++ dktJ16_vectorizedHashCode_6
def dkwJ16_vectorizedHashCode_4 : List UInt8 := [29, 42, 192, 0, 60, 27, 28, 184, 0, 75, 167, 0, 57, 29, 42, 192, 0, 77, 27, 28, 184, 0, 79]
abbrev dktJ16_vectorizedHashCode_4 : List UInt8 := dkwJ16_vectorizedHashCode_4 ++ dktJ16_vectorizedHashCode_5
def dkwJ16_vectorizedHashCode_3 : List UInt8 := [192, 0, 60, 27, 28, 184, 0, 66, 167, 0, 83, 29, 42, 192, 0, 69, 27, 28, 184, 0, 71, 167, 0, 70]
abbrev dktJ16_vectorizedHashCode_3 : List UInt8 := dkwJ16_vectorizedHashCode_3 ++ dktJ16_vectorizedHashCode_4
def dkwJ16_vectorizedHashCode_2 : List UInt8 := [29, 42, 192, 0, 60, 27, 28, 184, 0, 62, 167, 0, 103, 42, 193, 0, 60, 153, 0, 16, 29, 42]
abbrev dktJ16_vectorizedHashCode_2 : List UInt8 := dkwJ16_vectorizedHashCode_2 ++ dktJ16_vectorizedHashCode_3
def dkwJ16_vectorizedHashCode_1 : List UInt8 := [170, 0, 0, 0, 0, 127, 0, 0, 0, 4, 0, 0, 0, 10, 0, 0, 0, 42, 0, 0, 0, 55, 0, 0, 0, 127, 0, 0, 0, 127, 0, 0, 0, 88, 0, 0, 0, 101, 0, 0, 0, 114]
abbrev dktJ16_vectorizedHashCode_1 : List UInt8 := dkwJ16_vectorizedHashCode_1 ++ dktJ16_vectorizedHashCode_2
def dkwJ16_vectorizedHashCode_0 : List UInt8 := [21, 4]
abbrev dktJ16_vectorizedHashCode_0 : List UInt8 := dkwJ16_vectorizedHashCode_0 ++ dktJ16_vectorizedHashCode_1
theorem dksJ16_vectorizedHashCode_0 : cJ16_vectorizedHashCode.data.toList.drop 0 = dktJ16_vectorizedHashCode_0 := by decide +kernel
theorem dksJ16_vectorizedHashCode_1 : cJ16_vectorizedHashCode.data.toList.drop 2 = dktJ16_vectorizedHashCode_1 := dk_seg dksJ16_vectorizedHashCode_0 2 rfl rfl
theorem dksJ16_vectorizedHashCode_2 : cJ16_vectorizedHashCode.data.toList.drop 44 = dktJ16_vectorizedHashCode_2 := dk_seg dksJ16_vectorizedHashCode_1 42 rfl rfl
theorem dksJ16_vectorizedHashCode_3 : cJ16_vectorizedHashCode.data.toList.drop 66 = dktJ16_vectorizedHashCode_3 := dk_seg dksJ16_vectorizedHashCode_2 22 rfl rfl
theorem dksJ16_vectorizedHashCode_4 : cJ16_vectorizedHashCode.data.toList.drop 90 = dktJ16_vectorizedHashCode_4 := dk_seg dksJ16_vectorizedHashCode_3 24 rfl rfl
theorem dksJ16_vectorizedHashCode_5 : cJ16_vectorizedHashCode.data.toList.drop 113 = dktJ16_vectorizedHashCode_5 := dk_seg dksJ16_vectorizedHashCode_4 23 rfl rfl
theorem dksJ16_vectorizedHashCode_6 : cJ16_vectorizedHashCode.data.toList.drop 137 = dktJ16_vectorizedHashCode_6 := dk_seg dksJ16_vectorizedHashCode_5 24 rfl rfl
theorem dJ16_vectorizedHashCode_0 : decode cJ16_vectorizedHashCode 0 = .ok (.iload 4, 2) := dk_21 4 (dk_at dksJ16_vectorizedHashCode_0 0 rfl rfl)
theorem dJ16_vectorizedHashCode_2 : decode cJ16_vectorizedHashCode 2 = .ok (.tableswitch 127 4 10 #[42, 55, 127, 127, 88, 101, 114], 42) := by decide +kernel
theorem dJ16_vectorizedHashCode_44 : decode cJ16_vectorizedHashCode 44 = .ok (.iload_n 3, 1) := dk_29 (dk_at dksJ16_vectorizedHashCode_2 0 rfl rfl)
theorem dJ16_vectorizedHashCode_45 : decode cJ16_vectorizedHashCode 45 = .ok (.aload_n 0, 1) := dk_42 (dk_at dksJ16_vectorizedHashCode_2 1 rfl rfl)
theorem dJ16_vectorizedHashCode_46 : decode cJ16_vectorizedHashCode 46 = .ok (.checkcast 60, 3) := dk_192 0 60 (dk_at dksJ16_vectorizedHashCode_2 2 rfl rfl)
theorem dJ16_vectorizedHashCode_49 : decode cJ16_vectorizedHashCode 49 = .ok (.iload_n 1, 1) := dk_27 (dk_at dksJ16_vectorizedHashCode_2 5 rfl rfl)
theorem dJ16_vectorizedHashCode_50 : decode cJ16_vectorizedHashCode 50 = .ok (.iload_n 2, 1) := dk_28 (dk_at dksJ16_vectorizedHashCode_2 6 rfl rfl)
theorem dJ16_vectorizedHashCode_51 : decode cJ16_vectorizedHashCode 51 = .ok (.invokestatic 62, 3) := dk_184 0 62 (dk_at dksJ16_vectorizedHashCode_2 7 rfl rfl)
theorem dJ16_vectorizedHashCode_54 : decode cJ16_vectorizedHashCode 54 = .ok (.goto 103, 3) := dk_167 0 103 (dk_at dksJ16_vectorizedHashCode_2 10 rfl rfl)
theorem dJ16_vectorizedHashCode_57 : decode cJ16_vectorizedHashCode 57 = .ok (.aload_n 0, 1) := dk_42 (dk_at dksJ16_vectorizedHashCode_2 13 rfl rfl)
theorem dJ16_vectorizedHashCode_58 : decode cJ16_vectorizedHashCode 58 = .ok (.instanceof 60, 3) := dk_193 0 60 (dk_at dksJ16_vectorizedHashCode_2 14 rfl rfl)
theorem dJ16_vectorizedHashCode_61 : decode cJ16_vectorizedHashCode 61 = .ok (.ifCond .eq 16, 3) := dk_153 0 16 (dk_at dksJ16_vectorizedHashCode_2 17 rfl rfl)
theorem dJ16_vectorizedHashCode_64 : decode cJ16_vectorizedHashCode 64 = .ok (.iload_n 3, 1) := dk_29 (dk_at dksJ16_vectorizedHashCode_2 20 rfl rfl)
theorem dJ16_vectorizedHashCode_65 : decode cJ16_vectorizedHashCode 65 = .ok (.aload_n 0, 1) := dk_42 (dk_at dksJ16_vectorizedHashCode_2 21 rfl rfl)
theorem dJ16_vectorizedHashCode_66 : decode cJ16_vectorizedHashCode 66 = .ok (.checkcast 60, 3) := dk_192 0 60 (dk_at dksJ16_vectorizedHashCode_3 0 rfl rfl)
theorem dJ16_vectorizedHashCode_69 : decode cJ16_vectorizedHashCode 69 = .ok (.iload_n 1, 1) := dk_27 (dk_at dksJ16_vectorizedHashCode_3 3 rfl rfl)
theorem dJ16_vectorizedHashCode_70 : decode cJ16_vectorizedHashCode 70 = .ok (.iload_n 2, 1) := dk_28 (dk_at dksJ16_vectorizedHashCode_3 4 rfl rfl)
theorem dJ16_vectorizedHashCode_71 : decode cJ16_vectorizedHashCode 71 = .ok (.invokestatic 66, 3) := dk_184 0 66 (dk_at dksJ16_vectorizedHashCode_3 5 rfl rfl)
theorem dJ16_vectorizedHashCode_74 : decode cJ16_vectorizedHashCode 74 = .ok (.goto 83, 3) := dk_167 0 83 (dk_at dksJ16_vectorizedHashCode_3 8 rfl rfl)
theorem dJ16_vectorizedHashCode_77 : decode cJ16_vectorizedHashCode 77 = .ok (.iload_n 3, 1) := dk_29 (dk_at dksJ16_vectorizedHashCode_3 11 rfl rfl)
theorem dJ16_vectorizedHashCode_78 : decode cJ16_vectorizedHashCode 78 = .ok (.aload_n 0, 1) := dk_42 (dk_at dksJ16_vectorizedHashCode_3 12 rfl rfl)
theorem dJ16_vectorizedHashCode_79 : decode cJ16_vectorizedHashCode 79 = .ok (.checkcast 69, 3) := dk_192 0 69 (dk_at dksJ16_vectorizedHashCode_3 13 rfl rfl)
theorem dJ16_vectorizedHashCode_82 : decode cJ16_vectorizedHashCode 82 = .ok (.iload_n 1, 1) := dk_27 (dk_at dksJ16_vectorizedHashCode_3 16 rfl rfl)
theorem dJ16_vectorizedHashCode_83 : decode cJ16_vectorizedHashCode 83 = .ok (.iload_n 2, 1) := dk_28 (dk_at dksJ16_vectorizedHashCode_3 17 rfl rfl)
theorem dJ16_vectorizedHashCode_84 : decode cJ16_vectorizedHashCode 84 = .ok (.invokestatic 71, 3) := dk_184 0 71 (dk_at dksJ16_vectorizedHashCode_3 18 rfl rfl)
theorem dJ16_vectorizedHashCode_87 : decode cJ16_vectorizedHashCode 87 = .ok (.goto 70, 3) := dk_167 0 70 (dk_at dksJ16_vectorizedHashCode_3 21 rfl rfl)
theorem dJ16_vectorizedHashCode_90 : decode cJ16_vectorizedHashCode 90 = .ok (.iload_n 3, 1) := dk_29 (dk_at dksJ16_vectorizedHashCode_4 0 rfl rfl)
theorem dJ16_vectorizedHashCode_91 : decode cJ16_vectorizedHashCode 91 = .ok (.aload_n 0, 1) := dk_42 (dk_at dksJ16_vectorizedHashCode_4 1 rfl rfl)
theorem dJ16_vectorizedHashCode_92 : decode cJ16_vectorizedHashCode 92 = .ok (.checkcast 60, 3) := dk_192 0 60 (dk_at dksJ16_vectorizedHashCode_4 2 rfl rfl)
theorem dJ16_vectorizedHashCode_95 : decode cJ16_vectorizedHashCode 95 = .ok (.iload_n 1, 1) := dk_27 (dk_at dksJ16_vectorizedHashCode_4 5 rfl rfl)
theorem dJ16_vectorizedHashCode_96 : decode cJ16_vectorizedHashCode 96 = .ok (.iload_n 2, 1) := dk_28 (dk_at dksJ16_vectorizedHashCode_4 6 rfl rfl)
theorem dJ16_vectorizedHashCode_97 : decode cJ16_vectorizedHashCode 97 = .ok (.invokestatic 75, 3) := dk_184 0 75 (dk_at dksJ16_vectorizedHashCode_4 7 rfl rfl)
theorem dJ16_vectorizedHashCode_100 : decode cJ16_vectorizedHashCode 100 = .ok (.goto 57, 3) := dk_167 0 57 (dk_at dksJ16_vectorizedHashCode_4 10 rfl rfl)
theorem dJ16_vectorizedHashCode_103 : decode cJ16_vectorizedHashCode 103 = .ok (.iload_n 3, 1) := dk_29 (dk_at dksJ16_vectorizedHashCode_4 13 rfl rfl)
theorem dJ16_vectorizedHashCode_104 : decode cJ16_vectorizedHashCode 104 = .ok (.aload_n 0, 1) := dk_42 (dk_at dksJ16_vectorizedHashCode_4 14 rfl rfl)
theorem dJ16_vectorizedHashCode_105 : decode cJ16_vectorizedHashCode 105 = .ok (.checkcast 77, 3) := dk_192 0 77 (dk_at dksJ16_vectorizedHashCode_4 15 rfl rfl)
theorem dJ16_vectorizedHashCode_108 : decode cJ16_vectorizedHashCode 108 = .ok (.iload_n 1, 1) := dk_27 (dk_at dksJ16_vectorizedHashCode_4 18 rfl rfl)
theorem dJ16_vectorizedHashCode_109 : decode cJ16_vectorizedHashCode 109 = .ok (.iload_n 2, 1) := dk_28 (dk_at dksJ16_vectorizedHashCode_4 19 rfl rfl)
theorem dJ16_vectorizedHashCode_110 : decode cJ16_vectorizedHashCode 110 = .ok (.invokestatic 79, 3) := dk_184 0 79 (dk_at dksJ16_vectorizedHashCode_4 20 rfl rfl)
theorem dJ16_vectorizedHashCode_113 : decode cJ16_vectorizedHashCode 113 = .ok (.goto 44, 3) := dk_167 0 44 (dk_at dksJ16_vectorizedHashCode_5 0 rfl rfl)
theorem dJ16_vectorizedHashCode_116 : decode cJ16_vectorizedHashCode 116 = .ok (.iload_n 3, 1) := dk_29 (dk_at dksJ16_vectorizedHashCode_5 3 rfl rfl)
theorem dJ16_vectorizedHashCode_117 : decode cJ16_vectorizedHashCode 117 = .ok (.aload_n 0, 1) := dk_42 (dk_at dksJ16_vectorizedHashCode_5 4 rfl rfl)
theorem dJ16_vectorizedHashCode_118 : decode cJ16_vectorizedHashCode 118 = .ok (.checkcast 82, 3) := dk_192 0 82 (dk_at dksJ16_vectorizedHashCode_5 5 rfl rfl)
theorem dJ16_vectorizedHashCode_121 : decode cJ16_vectorizedHashCode 121 = .ok (.iload_n 1, 1) := dk_27 (dk_at dksJ16_vectorizedHashCode_5 8 rfl rfl)
theorem dJ16_vectorizedHashCode_122 : decode cJ16_vectorizedHashCode 122 = .ok (.iload_n 2, 1) := dk_28 (dk_at dksJ16_vectorizedHashCode_5 9 rfl rfl)
theorem dJ16_vectorizedHashCode_123 : decode cJ16_vectorizedHashCode 123 = .ok (.invokestatic 84, 3) := dk_184 0 84 (dk_at dksJ16_vectorizedHashCode_5 10 rfl rfl)
theorem dJ16_vectorizedHashCode_126 : decode cJ16_vectorizedHashCode 126 = .ok (.goto 31, 3) := dk_167 0 31 (dk_at dksJ16_vectorizedHashCode_5 13 rfl rfl)
theorem dJ16_vectorizedHashCode_129 : decode cJ16_vectorizedHashCode 129 = .ok (.new 87, 3) := dk_187 0 87 (dk_at dksJ16_vectorizedHashCode_5 16 rfl rfl)
theorem dJ16_vectorizedHashCode_132 : decode cJ16_vectorizedHashCode 132 = .ok (.dup, 1) := dk_89 (dk_at dksJ16_vectorizedHashCode_5 19 rfl rfl)
theorem dJ16_vectorizedHashCode_133 : decode cJ16_vectorizedHashCode 133 = .ok (.new 89, 3) := dk_187 0 89 (dk_at dksJ16_vectorizedHashCode_5 20 rfl rfl)
theorem dJ16_vectorizedHashCode_136 : decode cJ16_vectorizedHashCode 136 = .ok (.dup, 1) := dk_89 (dk_at dksJ16_vectorizedHashCode_5 23 rfl rfl)
theorem dJ16_vectorizedHashCode_137 : decode cJ16_vectorizedHashCode 137 = .ok (.invokespecial 91, 3) := dk_183 0 91 (dk_at dksJ16_vectorizedHashCode_6 0 rfl rfl)
theorem dJ16_vectorizedHashCode_140 : decode cJ16_vectorizedHashCode 140 = .ok (.ldc 92, 2) := dk_18 92 (dk_at dksJ16_vectorizedHashCode_6 3 rfl rfl)
theorem dJ16_vectorizedHashCode_142 : decode cJ16_vectorizedHashCode 142 = .ok (.invokevirtual 94, 3) := dk_182 0 94 (dk_at dksJ16_vectorizedHashCode_6 5 rfl rfl)
theorem dJ16_vectorizedHashCode_145 : decode cJ16_vectorizedHashCode 145 = .ok (.iload 4, 2) := dk_21 4 (dk_at dksJ16_vectorizedHashCode_6 8 rfl rfl)
theorem dJ16_vectorizedHashCode_147 : decode cJ16_vectorizedHashCode 147 = .ok (.invokevirtual 98, 3) := dk_182 0 98 (dk_at dksJ16_vectorizedHashCode_6 10 rfl rfl)
theorem dJ16_vectorizedHashCode_150 : decode cJ16_vectorizedHashCode 150 = .ok (.invokevirtual 101, 3) := dk_182 0 101 (dk_at dksJ16_vectorizedHashCode_6 13 rfl rfl)
theorem dJ16_vectorizedHashCode_153 : decode cJ16_vectorizedHashCode 153 = .ok (.invokespecial 105, 3) := dk_183 0 105 (dk_at dksJ16_vectorizedHashCode_6 16 rfl rfl)
theorem dJ16_vectorizedHashCode_156 : decode cJ16_vectorizedHashCode 156 = .ok (.athrow, 1) := dk_191 (dk_at dksJ16_vectorizedHashCode_6 19 rfl rfl)
theorem dJ16_vectorizedHashCode_157 : decode cJ16_vectorizedHashCode 157 = .ok (.ireturn, 1) := dk_172 (dk_at dksJ16_vectorizedHashCode_6 20 rfl rfl)
abbrev cJ16_signedHashCode : ByteArray := prog_56_method_5_code
def yJ16_signedHashCode : MethodName := ⟨RJ16, "signedHashCode", "(I[BII)I"⟩
def dkwJ16_signedHashCode_1 : List UInt8 := [17, 0, 255, 126, 96, 59, 132, 5, 1, 167, 255, 232, 26, 172]
abbrev dktJ16_signedHashCode_1 : List UInt8 := dkwJ16_signedHashCode_1 ++ []
def dkwJ16_signedHashCode_0 : List UInt8 := [28, 29, 96, 54, 4, 28, 54, 5, 21, 5, 21, 4, 162, 0, 23, 16, 31, 26, 104, 43, 21, 5, 51]
abbrev dktJ16_signedHashCode_0 : List UInt8 := dkwJ16_signedHashCode_0 ++ dktJ16_signedHashCode_1
theorem dksJ16_signedHashCode_0 : cJ16_signedHashCode.data.toList.drop 0 = dktJ16_signedHashCode_0 := by decide +kernel
theorem dksJ16_signedHashCode_1 : cJ16_signedHashCode.data.toList.drop 23 = dktJ16_signedHashCode_1 := dk_seg dksJ16_signedHashCode_0 23 rfl rfl
theorem dJ16_signedHashCode_0 : decode cJ16_signedHashCode 0 = .ok (.iload_n 2, 1) := dk_28 (dk_at dksJ16_signedHashCode_0 0 rfl rfl)
theorem dJ16_signedHashCode_1 : decode cJ16_signedHashCode 1 = .ok (.iload_n 3, 1) := dk_29 (dk_at dksJ16_signedHashCode_0 1 rfl rfl)
theorem dJ16_signedHashCode_2 : decode cJ16_signedHashCode 2 = .ok (.iadd, 1) := dk_96 (dk_at dksJ16_signedHashCode_0 2 rfl rfl)
theorem dJ16_signedHashCode_3 : decode cJ16_signedHashCode 3 = .ok (.istore 4, 2) := dk_54 4 (dk_at dksJ16_signedHashCode_0 3 rfl rfl)
theorem dJ16_signedHashCode_5 : decode cJ16_signedHashCode 5 = .ok (.iload_n 2, 1) := dk_28 (dk_at dksJ16_signedHashCode_0 5 rfl rfl)
theorem dJ16_signedHashCode_6 : decode cJ16_signedHashCode 6 = .ok (.istore 5, 2) := dk_54 5 (dk_at dksJ16_signedHashCode_0 6 rfl rfl)
theorem dJ16_signedHashCode_8 : decode cJ16_signedHashCode 8 = .ok (.iload 5, 2) := dk_21 5 (dk_at dksJ16_signedHashCode_0 8 rfl rfl)
theorem dJ16_signedHashCode_10 : decode cJ16_signedHashCode 10 = .ok (.iload 4, 2) := dk_21 4 (dk_at dksJ16_signedHashCode_0 10 rfl rfl)
theorem dJ16_signedHashCode_12 : decode cJ16_signedHashCode 12 = .ok (.if_icmp .ge 23, 3) := dk_162 0 23 (dk_at dksJ16_signedHashCode_0 12 rfl rfl)
theorem dJ16_signedHashCode_15 : decode cJ16_signedHashCode 15 = .ok (.bipush 31, 2) := dk_16 31 (dk_at dksJ16_signedHashCode_0 15 rfl rfl)
theorem dJ16_signedHashCode_17 : decode cJ16_signedHashCode 17 = .ok (.iload_n 0, 1) := dk_26 (dk_at dksJ16_signedHashCode_0 17 rfl rfl)
theorem dJ16_signedHashCode_18 : decode cJ16_signedHashCode 18 = .ok (.imul, 1) := dk_104 (dk_at dksJ16_signedHashCode_0 18 rfl rfl)
theorem dJ16_signedHashCode_19 : decode cJ16_signedHashCode 19 = .ok (.aload_n 1, 1) := dk_43 (dk_at dksJ16_signedHashCode_0 19 rfl rfl)
theorem dJ16_signedHashCode_20 : decode cJ16_signedHashCode 20 = .ok (.iload 5, 2) := dk_21 5 (dk_at dksJ16_signedHashCode_0 20 rfl rfl)
theorem dJ16_signedHashCode_22 : decode cJ16_signedHashCode 22 = .ok (.baload, 1) := dk_51 (dk_at dksJ16_signedHashCode_0 22 rfl rfl)
theorem dJ16_signedHashCode_23 : decode cJ16_signedHashCode 23 = .ok (.sipush 255, 3) := dk_17 0 255 (dk_at dksJ16_signedHashCode_1 0 rfl rfl)
theorem dJ16_signedHashCode_26 : decode cJ16_signedHashCode 26 = .ok (.iand, 1) := dk_126 (dk_at dksJ16_signedHashCode_1 3 rfl rfl)
theorem dJ16_signedHashCode_27 : decode cJ16_signedHashCode 27 = .ok (.iadd, 1) := dk_96 (dk_at dksJ16_signedHashCode_1 4 rfl rfl)
theorem dJ16_signedHashCode_28 : decode cJ16_signedHashCode 28 = .ok (.istore_n 0, 1) := dk_59 (dk_at dksJ16_signedHashCode_1 5 rfl rfl)
theorem dJ16_signedHashCode_29 : decode cJ16_signedHashCode 29 = .ok (.iinc 5 1, 3) := dk_132 5 1 (dk_at dksJ16_signedHashCode_1 6 rfl rfl)
theorem dJ16_signedHashCode_32 : decode cJ16_signedHashCode 32 = .ok (.goto (-24), 3) := dk_167 255 232 (dk_at dksJ16_signedHashCode_1 9 rfl rfl)
theorem dJ16_signedHashCode_35 : decode cJ16_signedHashCode 35 = .ok (.iload_n 0, 1) := dk_26 (dk_at dksJ16_signedHashCode_1 12 rfl rfl)
theorem dJ16_signedHashCode_36 : decode cJ16_signedHashCode 36 = .ok (.ireturn, 1) := dk_172 (dk_at dksJ16_signedHashCode_1 13 rfl rfl)
abbrev cJ16_utf16hashCode : ByteArray := prog_56_method_10_code
def yJ16_utf16hashCode : MethodName := ⟨RJ16, "utf16hashCode", "(I[BII)I"⟩
def dkwJ16_utf16hashCode_1 : List UInt8 := [21, 5, 185, 0, 110, 3, 0, 96, 59, 132, 5, 1, 167, 255, 229, 26, 172]
abbrev dktJ16_utf16hashCode_1 : List UInt8 := dkwJ16_utf16hashCode_1 ++ []
def dkwJ16_utf16hashCode_0 : List UInt8 := [28, 29, 96, 54, 4, 28, 54, 5, 21, 5, 21, 4, 162, 0, 26, 16, 31, 26, 104, 178, 0, 106, 43]
abbrev dktJ16_utf16hashCode_0 : List UInt8 := dkwJ16_utf16hashCode_0 ++ dktJ16_utf16hashCode_1
theorem dksJ16_utf16hashCode_0 : cJ16_utf16hashCode.data.toList.drop 0 = dktJ16_utf16hashCode_0 := by decide +kernel
theorem dksJ16_utf16hashCode_1 : cJ16_utf16hashCode.data.toList.drop 23 = dktJ16_utf16hashCode_1 := dk_seg dksJ16_utf16hashCode_0 23 rfl rfl
theorem dJ16_utf16hashCode_0 : decode cJ16_utf16hashCode 0 = .ok (.iload_n 2, 1) := dk_28 (dk_at dksJ16_utf16hashCode_0 0 rfl rfl)
theorem dJ16_utf16hashCode_1 : decode cJ16_utf16hashCode 1 = .ok (.iload_n 3, 1) := dk_29 (dk_at dksJ16_utf16hashCode_0 1 rfl rfl)
theorem dJ16_utf16hashCode_2 : decode cJ16_utf16hashCode 2 = .ok (.iadd, 1) := dk_96 (dk_at dksJ16_utf16hashCode_0 2 rfl rfl)
theorem dJ16_utf16hashCode_3 : decode cJ16_utf16hashCode 3 = .ok (.istore 4, 2) := dk_54 4 (dk_at dksJ16_utf16hashCode_0 3 rfl rfl)
theorem dJ16_utf16hashCode_5 : decode cJ16_utf16hashCode 5 = .ok (.iload_n 2, 1) := dk_28 (dk_at dksJ16_utf16hashCode_0 5 rfl rfl)
theorem dJ16_utf16hashCode_6 : decode cJ16_utf16hashCode 6 = .ok (.istore 5, 2) := dk_54 5 (dk_at dksJ16_utf16hashCode_0 6 rfl rfl)
theorem dJ16_utf16hashCode_8 : decode cJ16_utf16hashCode 8 = .ok (.iload 5, 2) := dk_21 5 (dk_at dksJ16_utf16hashCode_0 8 rfl rfl)
theorem dJ16_utf16hashCode_10 : decode cJ16_utf16hashCode 10 = .ok (.iload 4, 2) := dk_21 4 (dk_at dksJ16_utf16hashCode_0 10 rfl rfl)
theorem dJ16_utf16hashCode_12 : decode cJ16_utf16hashCode 12 = .ok (.if_icmp .ge 26, 3) := dk_162 0 26 (dk_at dksJ16_utf16hashCode_0 12 rfl rfl)
theorem dJ16_utf16hashCode_15 : decode cJ16_utf16hashCode 15 = .ok (.bipush 31, 2) := dk_16 31 (dk_at dksJ16_utf16hashCode_0 15 rfl rfl)
theorem dJ16_utf16hashCode_17 : decode cJ16_utf16hashCode 17 = .ok (.iload_n 0, 1) := dk_26 (dk_at dksJ16_utf16hashCode_0 17 rfl rfl)
theorem dJ16_utf16hashCode_18 : decode cJ16_utf16hashCode 18 = .ok (.imul, 1) := dk_104 (dk_at dksJ16_utf16hashCode_0 18 rfl rfl)
theorem dJ16_utf16hashCode_19 : decode cJ16_utf16hashCode 19 = .ok (.getstatic 106, 3) := dk_178 0 106 (dk_at dksJ16_utf16hashCode_0 19 rfl rfl)
theorem dJ16_utf16hashCode_22 : decode cJ16_utf16hashCode 22 = .ok (.aload_n 1, 1) := dk_43 (dk_at dksJ16_utf16hashCode_0 22 rfl rfl)
theorem dJ16_utf16hashCode_23 : decode cJ16_utf16hashCode 23 = .ok (.iload 5, 2) := dk_21 5 (dk_at dksJ16_utf16hashCode_1 0 rfl rfl)
theorem dJ16_utf16hashCode_25 : decode cJ16_utf16hashCode 25 = .ok (.invokeinterface 110 3, 5) := by decide +kernel
theorem dJ16_utf16hashCode_30 : decode cJ16_utf16hashCode 30 = .ok (.iadd, 1) := dk_96 (dk_at dksJ16_utf16hashCode_1 7 rfl rfl)
theorem dJ16_utf16hashCode_31 : decode cJ16_utf16hashCode 31 = .ok (.istore_n 0, 1) := dk_59 (dk_at dksJ16_utf16hashCode_1 8 rfl rfl)
theorem dJ16_utf16hashCode_32 : decode cJ16_utf16hashCode 32 = .ok (.iinc 5 1, 3) := dk_132 5 1 (dk_at dksJ16_utf16hashCode_1 9 rfl rfl)
theorem dJ16_utf16hashCode_35 : decode cJ16_utf16hashCode 35 = .ok (.goto (-27), 3) := dk_167 255 229 (dk_at dksJ16_utf16hashCode_1 12 rfl rfl)
theorem dJ16_utf16hashCode_38 : decode cJ16_utf16hashCode 38 = .ok (.iload_n 0, 1) := dk_26 (dk_at dksJ16_utf16hashCode_1 15 rfl rfl)
theorem dJ16_utf16hashCode_39 : decode cJ16_utf16hashCode 39 = .ok (.ireturn, 1) := dk_172 (dk_at dksJ16_utf16hashCode_1 16 rfl rfl)
abbrev cJ16_hashCode : ByteArray := prog_56_method_7_code
def yJ16_hashCode : MethodName := ⟨RJ16, "hashCode", "(I[CII)I"⟩
def dkwJ16_hashCode_1 : List UInt8 := [59, 132, 5, 1, 167, 255, 236, 26, 172]
abbrev dktJ16_hashCode_1 : List UInt8 := dkwJ16_hashCode_1 ++ []
def dkwJ16_hashCode_0 : List UInt8 := [28, 29, 96, 54, 4, 28, 54, 5, 21, 5, 21, 4, 162, 0, 19, 16, 31, 26, 104, 43, 21, 5, 52, 96]
abbrev dktJ16_hashCode_0 : List UInt8 := dkwJ16_hashCode_0 ++ dktJ16_hashCode_1
theorem dksJ16_hashCode_0 : cJ16_hashCode.data.toList.drop 0 = dktJ16_hashCode_0 := by decide +kernel
theorem dksJ16_hashCode_1 : cJ16_hashCode.data.toList.drop 24 = dktJ16_hashCode_1 := dk_seg dksJ16_hashCode_0 24 rfl rfl
theorem dJ16_hashCode_0 : decode cJ16_hashCode 0 = .ok (.iload_n 2, 1) := dk_28 (dk_at dksJ16_hashCode_0 0 rfl rfl)
theorem dJ16_hashCode_1 : decode cJ16_hashCode 1 = .ok (.iload_n 3, 1) := dk_29 (dk_at dksJ16_hashCode_0 1 rfl rfl)
theorem dJ16_hashCode_2 : decode cJ16_hashCode 2 = .ok (.iadd, 1) := dk_96 (dk_at dksJ16_hashCode_0 2 rfl rfl)
theorem dJ16_hashCode_3 : decode cJ16_hashCode 3 = .ok (.istore 4, 2) := dk_54 4 (dk_at dksJ16_hashCode_0 3 rfl rfl)
theorem dJ16_hashCode_5 : decode cJ16_hashCode 5 = .ok (.iload_n 2, 1) := dk_28 (dk_at dksJ16_hashCode_0 5 rfl rfl)
theorem dJ16_hashCode_6 : decode cJ16_hashCode 6 = .ok (.istore 5, 2) := dk_54 5 (dk_at dksJ16_hashCode_0 6 rfl rfl)
theorem dJ16_hashCode_8 : decode cJ16_hashCode 8 = .ok (.iload 5, 2) := dk_21 5 (dk_at dksJ16_hashCode_0 8 rfl rfl)
theorem dJ16_hashCode_10 : decode cJ16_hashCode 10 = .ok (.iload 4, 2) := dk_21 4 (dk_at dksJ16_hashCode_0 10 rfl rfl)
theorem dJ16_hashCode_12 : decode cJ16_hashCode 12 = .ok (.if_icmp .ge 19, 3) := dk_162 0 19 (dk_at dksJ16_hashCode_0 12 rfl rfl)
theorem dJ16_hashCode_15 : decode cJ16_hashCode 15 = .ok (.bipush 31, 2) := dk_16 31 (dk_at dksJ16_hashCode_0 15 rfl rfl)
theorem dJ16_hashCode_17 : decode cJ16_hashCode 17 = .ok (.iload_n 0, 1) := dk_26 (dk_at dksJ16_hashCode_0 17 rfl rfl)
theorem dJ16_hashCode_18 : decode cJ16_hashCode 18 = .ok (.imul, 1) := dk_104 (dk_at dksJ16_hashCode_0 18 rfl rfl)
theorem dJ16_hashCode_19 : decode cJ16_hashCode 19 = .ok (.aload_n 1, 1) := dk_43 (dk_at dksJ16_hashCode_0 19 rfl rfl)
theorem dJ16_hashCode_20 : decode cJ16_hashCode 20 = .ok (.iload 5, 2) := dk_21 5 (dk_at dksJ16_hashCode_0 20 rfl rfl)
theorem dJ16_hashCode_22 : decode cJ16_hashCode 22 = .ok (.caload, 1) := dk_52 (dk_at dksJ16_hashCode_0 22 rfl rfl)
theorem dJ16_hashCode_23 : decode cJ16_hashCode 23 = .ok (.iadd, 1) := dk_96 (dk_at dksJ16_hashCode_0 23 rfl rfl)
theorem dJ16_hashCode_24 : decode cJ16_hashCode 24 = .ok (.istore_n 0, 1) := dk_59 (dk_at dksJ16_hashCode_1 0 rfl rfl)
theorem dJ16_hashCode_25 : decode cJ16_hashCode 25 = .ok (.iinc 5 1, 3) := dk_132 5 1 (dk_at dksJ16_hashCode_1 1 rfl rfl)
theorem dJ16_hashCode_28 : decode cJ16_hashCode 28 = .ok (.goto (-20), 3) := dk_167 255 236 (dk_at dksJ16_hashCode_1 4 rfl rfl)
theorem dJ16_hashCode_31 : decode cJ16_hashCode 31 = .ok (.iload_n 0, 1) := dk_26 (dk_at dksJ16_hashCode_1 7 rfl rfl)
theorem dJ16_hashCode_32 : decode cJ16_hashCode 32 = .ok (.ireturn, 1) := dk_172 (dk_at dksJ16_hashCode_1 8 rfl rfl)
abbrev cJ16_hashCode_2 : ByteArray := prog_56_method_6_code
def yJ16_hashCode_2 : MethodName := ⟨RJ16, "hashCode", "(I[BII)I"⟩
def dkwJ16_hashCode_2_1 : List UInt8 := [59, 132, 5, 1, 167, 255, 236, 26, 172]
abbrev dktJ16_hashCode_2_1 : List UInt8 := dkwJ16_hashCode_2_1 ++ []
def dkwJ16_hashCode_2_0 : List UInt8 := [28, 29, 96, 54, 4, 28, 54, 5, 21, 5, 21, 4, 162, 0, 19, 16, 31, 26, 104, 43, 21, 5, 51, 96]
abbrev dktJ16_hashCode_2_0 : List UInt8 := dkwJ16_hashCode_2_0 ++ dktJ16_hashCode_2_1
theorem dksJ16_hashCode_2_0 : cJ16_hashCode_2.data.toList.drop 0 = dktJ16_hashCode_2_0 := by decide +kernel
theorem dksJ16_hashCode_2_1 : cJ16_hashCode_2.data.toList.drop 24 = dktJ16_hashCode_2_1 := dk_seg dksJ16_hashCode_2_0 24 rfl rfl
theorem dJ16_hashCode_2_0 : decode cJ16_hashCode_2 0 = .ok (.iload_n 2, 1) := dk_28 (dk_at dksJ16_hashCode_2_0 0 rfl rfl)
theorem dJ16_hashCode_2_1 : decode cJ16_hashCode_2 1 = .ok (.iload_n 3, 1) := dk_29 (dk_at dksJ16_hashCode_2_0 1 rfl rfl)
theorem dJ16_hashCode_2_2 : decode cJ16_hashCode_2 2 = .ok (.iadd, 1) := dk_96 (dk_at dksJ16_hashCode_2_0 2 rfl rfl)
theorem dJ16_hashCode_2_3 : decode cJ16_hashCode_2 3 = .ok (.istore 4, 2) := dk_54 4 (dk_at dksJ16_hashCode_2_0 3 rfl rfl)
theorem dJ16_hashCode_2_5 : decode cJ16_hashCode_2 5 = .ok (.iload_n 2, 1) := dk_28 (dk_at dksJ16_hashCode_2_0 5 rfl rfl)
theorem dJ16_hashCode_2_6 : decode cJ16_hashCode_2 6 = .ok (.istore 5, 2) := dk_54 5 (dk_at dksJ16_hashCode_2_0 6 rfl rfl)
theorem dJ16_hashCode_2_8 : decode cJ16_hashCode_2 8 = .ok (.iload 5, 2) := dk_21 5 (dk_at dksJ16_hashCode_2_0 8 rfl rfl)
theorem dJ16_hashCode_2_10 : decode cJ16_hashCode_2 10 = .ok (.iload 4, 2) := dk_21 4 (dk_at dksJ16_hashCode_2_0 10 rfl rfl)
theorem dJ16_hashCode_2_12 : decode cJ16_hashCode_2 12 = .ok (.if_icmp .ge 19, 3) := dk_162 0 19 (dk_at dksJ16_hashCode_2_0 12 rfl rfl)
theorem dJ16_hashCode_2_15 : decode cJ16_hashCode_2 15 = .ok (.bipush 31, 2) := dk_16 31 (dk_at dksJ16_hashCode_2_0 15 rfl rfl)
theorem dJ16_hashCode_2_17 : decode cJ16_hashCode_2 17 = .ok (.iload_n 0, 1) := dk_26 (dk_at dksJ16_hashCode_2_0 17 rfl rfl)
theorem dJ16_hashCode_2_18 : decode cJ16_hashCode_2 18 = .ok (.imul, 1) := dk_104 (dk_at dksJ16_hashCode_2_0 18 rfl rfl)
theorem dJ16_hashCode_2_19 : decode cJ16_hashCode_2 19 = .ok (.aload_n 1, 1) := dk_43 (dk_at dksJ16_hashCode_2_0 19 rfl rfl)
theorem dJ16_hashCode_2_20 : decode cJ16_hashCode_2 20 = .ok (.iload 5, 2) := dk_21 5 (dk_at dksJ16_hashCode_2_0 20 rfl rfl)
theorem dJ16_hashCode_2_22 : decode cJ16_hashCode_2 22 = .ok (.baload, 1) := dk_51 (dk_at dksJ16_hashCode_2_0 22 rfl rfl)
theorem dJ16_hashCode_2_23 : decode cJ16_hashCode_2 23 = .ok (.iadd, 1) := dk_96 (dk_at dksJ16_hashCode_2_0 23 rfl rfl)
theorem dJ16_hashCode_2_24 : decode cJ16_hashCode_2 24 = .ok (.istore_n 0, 1) := dk_59 (dk_at dksJ16_hashCode_2_1 0 rfl rfl)
theorem dJ16_hashCode_2_25 : decode cJ16_hashCode_2 25 = .ok (.iinc 5 1, 3) := dk_132 5 1 (dk_at dksJ16_hashCode_2_1 1 rfl rfl)
theorem dJ16_hashCode_2_28 : decode cJ16_hashCode_2 28 = .ok (.goto (-20), 3) := dk_167 255 236 (dk_at dksJ16_hashCode_2_1 4 rfl rfl)
theorem dJ16_hashCode_2_31 : decode cJ16_hashCode_2 31 = .ok (.iload_n 0, 1) := dk_26 (dk_at dksJ16_hashCode_2_1 7 rfl rfl)
theorem dJ16_hashCode_2_32 : decode cJ16_hashCode_2 32 = .ok (.ireturn, 1) := dk_172 (dk_at dksJ16_hashCode_2_1 8 rfl rfl)
abbrev cJ16_hashCode_3 : ByteArray := prog_56_method_8_code
def yJ16_hashCode_3 : MethodName := ⟨RJ16, "hashCode", "(I[SII)I"⟩
def dkwJ16_hashCode_3_1 : List UInt8 := [59, 132, 5, 1, 167, 255, 236, 26, 172]
abbrev dktJ16_hashCode_3_1 : List UInt8 := dkwJ16_hashCode_3_1 ++ []
def dkwJ16_hashCode_3_0 : List UInt8 := [28, 29, 96, 54, 4, 28, 54, 5, 21, 5, 21, 4, 162, 0, 19, 16, 31, 26, 104, 43, 21, 5, 53, 96]
abbrev dktJ16_hashCode_3_0 : List UInt8 := dkwJ16_hashCode_3_0 ++ dktJ16_hashCode_3_1
theorem dksJ16_hashCode_3_0 : cJ16_hashCode_3.data.toList.drop 0 = dktJ16_hashCode_3_0 := by decide +kernel
theorem dksJ16_hashCode_3_1 : cJ16_hashCode_3.data.toList.drop 24 = dktJ16_hashCode_3_1 := dk_seg dksJ16_hashCode_3_0 24 rfl rfl
theorem dJ16_hashCode_3_0 : decode cJ16_hashCode_3 0 = .ok (.iload_n 2, 1) := dk_28 (dk_at dksJ16_hashCode_3_0 0 rfl rfl)
theorem dJ16_hashCode_3_1 : decode cJ16_hashCode_3 1 = .ok (.iload_n 3, 1) := dk_29 (dk_at dksJ16_hashCode_3_0 1 rfl rfl)
theorem dJ16_hashCode_3_2 : decode cJ16_hashCode_3 2 = .ok (.iadd, 1) := dk_96 (dk_at dksJ16_hashCode_3_0 2 rfl rfl)
theorem dJ16_hashCode_3_3 : decode cJ16_hashCode_3 3 = .ok (.istore 4, 2) := dk_54 4 (dk_at dksJ16_hashCode_3_0 3 rfl rfl)
theorem dJ16_hashCode_3_5 : decode cJ16_hashCode_3 5 = .ok (.iload_n 2, 1) := dk_28 (dk_at dksJ16_hashCode_3_0 5 rfl rfl)
theorem dJ16_hashCode_3_6 : decode cJ16_hashCode_3 6 = .ok (.istore 5, 2) := dk_54 5 (dk_at dksJ16_hashCode_3_0 6 rfl rfl)
theorem dJ16_hashCode_3_8 : decode cJ16_hashCode_3 8 = .ok (.iload 5, 2) := dk_21 5 (dk_at dksJ16_hashCode_3_0 8 rfl rfl)
theorem dJ16_hashCode_3_10 : decode cJ16_hashCode_3 10 = .ok (.iload 4, 2) := dk_21 4 (dk_at dksJ16_hashCode_3_0 10 rfl rfl)
theorem dJ16_hashCode_3_12 : decode cJ16_hashCode_3 12 = .ok (.if_icmp .ge 19, 3) := dk_162 0 19 (dk_at dksJ16_hashCode_3_0 12 rfl rfl)
theorem dJ16_hashCode_3_15 : decode cJ16_hashCode_3 15 = .ok (.bipush 31, 2) := dk_16 31 (dk_at dksJ16_hashCode_3_0 15 rfl rfl)
theorem dJ16_hashCode_3_17 : decode cJ16_hashCode_3 17 = .ok (.iload_n 0, 1) := dk_26 (dk_at dksJ16_hashCode_3_0 17 rfl rfl)
theorem dJ16_hashCode_3_18 : decode cJ16_hashCode_3 18 = .ok (.imul, 1) := dk_104 (dk_at dksJ16_hashCode_3_0 18 rfl rfl)
theorem dJ16_hashCode_3_19 : decode cJ16_hashCode_3 19 = .ok (.aload_n 1, 1) := dk_43 (dk_at dksJ16_hashCode_3_0 19 rfl rfl)
theorem dJ16_hashCode_3_20 : decode cJ16_hashCode_3 20 = .ok (.iload 5, 2) := dk_21 5 (dk_at dksJ16_hashCode_3_0 20 rfl rfl)
theorem dJ16_hashCode_3_22 : decode cJ16_hashCode_3 22 = .ok (.saload, 1) := dk_53 (dk_at dksJ16_hashCode_3_0 22 rfl rfl)
theorem dJ16_hashCode_3_23 : decode cJ16_hashCode_3 23 = .ok (.iadd, 1) := dk_96 (dk_at dksJ16_hashCode_3_0 23 rfl rfl)
theorem dJ16_hashCode_3_24 : decode cJ16_hashCode_3 24 = .ok (.istore_n 0, 1) := dk_59 (dk_at dksJ16_hashCode_3_1 0 rfl rfl)
theorem dJ16_hashCode_3_25 : decode cJ16_hashCode_3 25 = .ok (.iinc 5 1, 3) := dk_132 5 1 (dk_at dksJ16_hashCode_3_1 1 rfl rfl)
theorem dJ16_hashCode_3_28 : decode cJ16_hashCode_3 28 = .ok (.goto (-20), 3) := dk_167 255 236 (dk_at dksJ16_hashCode_3_1 4 rfl rfl)
theorem dJ16_hashCode_3_31 : decode cJ16_hashCode_3 31 = .ok (.iload_n 0, 1) := dk_26 (dk_at dksJ16_hashCode_3_1 7 rfl rfl)
theorem dJ16_hashCode_3_32 : decode cJ16_hashCode_3 32 = .ok (.ireturn, 1) := dk_172 (dk_at dksJ16_hashCode_3_1 8 rfl rfl)
abbrev cJ16_hashCode_4 : ByteArray := prog_56_method_9_code
def yJ16_hashCode_4 : MethodName := ⟨RJ16, "hashCode", "(I[III)I"⟩
def dkwJ16_hashCode_4_1 : List UInt8 := [59, 132, 5, 1, 167, 255, 236, 26, 172]
abbrev dktJ16_hashCode_4_1 : List UInt8 := dkwJ16_hashCode_4_1 ++ []
def dkwJ16_hashCode_4_0 : List UInt8 := [28, 29, 96, 54, 4, 28, 54, 5, 21, 5, 21, 4, 162, 0, 19, 16, 31, 26, 104, 43, 21, 5, 46, 96]
abbrev dktJ16_hashCode_4_0 : List UInt8 := dkwJ16_hashCode_4_0 ++ dktJ16_hashCode_4_1
theorem dksJ16_hashCode_4_0 : cJ16_hashCode_4.data.toList.drop 0 = dktJ16_hashCode_4_0 := by decide +kernel
theorem dksJ16_hashCode_4_1 : cJ16_hashCode_4.data.toList.drop 24 = dktJ16_hashCode_4_1 := dk_seg dksJ16_hashCode_4_0 24 rfl rfl
theorem dJ16_hashCode_4_0 : decode cJ16_hashCode_4 0 = .ok (.iload_n 2, 1) := dk_28 (dk_at dksJ16_hashCode_4_0 0 rfl rfl)
theorem dJ16_hashCode_4_1 : decode cJ16_hashCode_4 1 = .ok (.iload_n 3, 1) := dk_29 (dk_at dksJ16_hashCode_4_0 1 rfl rfl)
theorem dJ16_hashCode_4_2 : decode cJ16_hashCode_4 2 = .ok (.iadd, 1) := dk_96 (dk_at dksJ16_hashCode_4_0 2 rfl rfl)
theorem dJ16_hashCode_4_3 : decode cJ16_hashCode_4 3 = .ok (.istore 4, 2) := dk_54 4 (dk_at dksJ16_hashCode_4_0 3 rfl rfl)
theorem dJ16_hashCode_4_5 : decode cJ16_hashCode_4 5 = .ok (.iload_n 2, 1) := dk_28 (dk_at dksJ16_hashCode_4_0 5 rfl rfl)
theorem dJ16_hashCode_4_6 : decode cJ16_hashCode_4 6 = .ok (.istore 5, 2) := dk_54 5 (dk_at dksJ16_hashCode_4_0 6 rfl rfl)
theorem dJ16_hashCode_4_8 : decode cJ16_hashCode_4 8 = .ok (.iload 5, 2) := dk_21 5 (dk_at dksJ16_hashCode_4_0 8 rfl rfl)
theorem dJ16_hashCode_4_10 : decode cJ16_hashCode_4 10 = .ok (.iload 4, 2) := dk_21 4 (dk_at dksJ16_hashCode_4_0 10 rfl rfl)
theorem dJ16_hashCode_4_12 : decode cJ16_hashCode_4 12 = .ok (.if_icmp .ge 19, 3) := dk_162 0 19 (dk_at dksJ16_hashCode_4_0 12 rfl rfl)
theorem dJ16_hashCode_4_15 : decode cJ16_hashCode_4 15 = .ok (.bipush 31, 2) := dk_16 31 (dk_at dksJ16_hashCode_4_0 15 rfl rfl)
theorem dJ16_hashCode_4_17 : decode cJ16_hashCode_4 17 = .ok (.iload_n 0, 1) := dk_26 (dk_at dksJ16_hashCode_4_0 17 rfl rfl)
theorem dJ16_hashCode_4_18 : decode cJ16_hashCode_4 18 = .ok (.imul, 1) := dk_104 (dk_at dksJ16_hashCode_4_0 18 rfl rfl)
theorem dJ16_hashCode_4_19 : decode cJ16_hashCode_4 19 = .ok (.aload_n 1, 1) := dk_43 (dk_at dksJ16_hashCode_4_0 19 rfl rfl)
theorem dJ16_hashCode_4_20 : decode cJ16_hashCode_4 20 = .ok (.iload 5, 2) := dk_21 5 (dk_at dksJ16_hashCode_4_0 20 rfl rfl)
theorem dJ16_hashCode_4_22 : decode cJ16_hashCode_4 22 = .ok (.iaload, 1) := dk_46 (dk_at dksJ16_hashCode_4_0 22 rfl rfl)
theorem dJ16_hashCode_4_23 : decode cJ16_hashCode_4 23 = .ok (.iadd, 1) := dk_96 (dk_at dksJ16_hashCode_4_0 23 rfl rfl)
theorem dJ16_hashCode_4_24 : decode cJ16_hashCode_4 24 = .ok (.istore_n 0, 1) := dk_59 (dk_at dksJ16_hashCode_4_1 0 rfl rfl)
theorem dJ16_hashCode_4_25 : decode cJ16_hashCode_4 25 = .ok (.iinc 5 1, 3) := dk_132 5 1 (dk_at dksJ16_hashCode_4_1 1 rfl rfl)
theorem dJ16_hashCode_4_28 : decode cJ16_hashCode_4 28 = .ok (.goto (-20), 3) := dk_167 255 236 (dk_at dksJ16_hashCode_4_1 4 rfl rfl)
theorem dJ16_hashCode_4_31 : decode cJ16_hashCode_4 31 = .ok (.iload_n 0, 1) := dk_26 (dk_at dksJ16_hashCode_4_1 7 rfl rfl)
theorem dJ16_hashCode_4_32 : decode cJ16_hashCode_4 32 = .ok (.ireturn, 1) := dk_172 (dk_at dksJ16_hashCode_4_1 8 rfl rfl)
theorem q138 : (Jvm.Cond.initialized "jdk/internal/util/ArraysSupport") ∈ lw_all := lw_g (lw_at lw_m1 23 rfl) rfl
theorem q445 : (Jvm.Cond.static ({ cls := "jdk/internal/util/ArraysSupport", name := "newLength", desc := "(III)I" } : Jvm.MethodName)) ∈ lw_all := lw_g (lw_at lw_m2 90 rfl) rfl
theorem q446 : (Jvm.Cond.code ({ cls := "jdk/internal/util/ArraysSupport", name := "newLength", desc := "(III)I" } : Jvm.MethodName) prog_56_method_27_code (4 : Nat) (Option.some Jvm.ClassFile.FieldType.int)) ∈ lw_all := lw_g (lw_at lw_m2 91 rfl) rfl
theorem q447 : (Jvm.Cond.methodLink "jdk/internal/util/ArraysSupport" (194 : Nat) ({ cls := "java/lang/Math", name := "max", desc := "(II)I" } : Jvm.MethodName)) ∈ lw_all := lw_g (lw_at lw_m2 92 rfl) rfl
theorem q450 : (Jvm.Cond.constant "jdk/internal/util/ArraysSupport" (200 : Nat) (2147483639 : Int32)) ∈ lw_all := lw_g (lw_at lw_m2 95 rfl) rfl
theorem q451 : (Jvm.Cond.methodLink "jdk/internal/util/ArraysSupport" (201 : Nat) ({ cls := "jdk/internal/util/ArraysSupport", name := "hugeLength", desc := "(II)I" } : Jvm.MethodName)) ∈ lw_all := lw_g (lw_at lw_m2 96 rfl) rfl
theorem q452 : (Jvm.Cond.static ({ cls := "jdk/internal/util/ArraysSupport", name := "hugeLength", desc := "(II)I" } : Jvm.MethodName)) ∈ lw_all := lw_g (lw_at lw_m2 97 rfl) rfl
theorem q453 : (Jvm.Cond.code ({ cls := "jdk/internal/util/ArraysSupport", name := "hugeLength", desc := "(II)I" } : Jvm.MethodName) prog_56_method_28_code (3 : Nat) (Option.some Jvm.ClassFile.FieldType.int)) ∈ lw_all := lw_g (lw_at lw_m2 98 rfl) rfl
theorem q753 : (Jvm.Cond.static ({ cls := "jdk/internal/util/ArraysSupport", name := "vectorizedHashCode", desc := "(Ljava/lang/Object;IIII)I" } : Jvm.MethodName)) ∈ lw_all := lw_g (lw_at lw_m3 158 rfl) rfl
theorem q754 : (Jvm.Cond.code ({ cls := "jdk/internal/util/ArraysSupport", name := "vectorizedHashCode", desc := "(Ljava/lang/Object;IIII)I" } : Jvm.MethodName) prog_56_method_4_code (5 : Nat) (Option.some Jvm.ClassFile.FieldType.int)) ∈ lw_all := lw_g (lw_at lw_m3 159 rfl) rfl
theorem q755 : (Jvm.Cond.classLink "jdk/internal/util/ArraysSupport" (60 : Nat) "[B") ∈ lw_all := lw_g (lw_at lw_m3 160 rfl) rfl
theorem q756 : (Jvm.Cond.methodLink "jdk/internal/util/ArraysSupport" (62 : Nat) ({ cls := "jdk/internal/util/ArraysSupport", name := "signedHashCode", desc := "(I[BII)I" } : Jvm.MethodName)) ∈ lw_all := lw_g (lw_at lw_m3 161 rfl) rfl
theorem q757 : (Jvm.Cond.static ({ cls := "jdk/internal/util/ArraysSupport", name := "signedHashCode", desc := "(I[BII)I" } : Jvm.MethodName)) ∈ lw_all := lw_g (lw_at lw_m3 162 rfl) rfl
theorem q758 : (Jvm.Cond.code ({ cls := "jdk/internal/util/ArraysSupport", name := "signedHashCode", desc := "(I[BII)I" } : Jvm.MethodName) prog_56_method_5_code (6 : Nat) (Option.some Jvm.ClassFile.FieldType.int)) ∈ lw_all := lw_g (lw_at lw_m3 163 rfl) rfl
theorem q759 : (Jvm.Cond.methodLink "jdk/internal/util/ArraysSupport" (66 : Nat) ({ cls := "jdk/internal/util/ArraysSupport", name := "utf16hashCode", desc := "(I[BII)I" } : Jvm.MethodName)) ∈ lw_all := lw_g (lw_at lw_m3 164 rfl) rfl
theorem q760 : (Jvm.Cond.static ({ cls := "jdk/internal/util/ArraysSupport", name := "utf16hashCode", desc := "(I[BII)I" } : Jvm.MethodName)) ∈ lw_all := lw_g (lw_at lw_m3 165 rfl) rfl
theorem q761 : (Jvm.Cond.code ({ cls := "jdk/internal/util/ArraysSupport", name := "utf16hashCode", desc := "(I[BII)I" } : Jvm.MethodName) prog_56_method_10_code (6 : Nat) (Option.some Jvm.ClassFile.FieldType.int)) ∈ lw_all := lw_g (lw_at lw_m3 166 rfl) rfl
theorem q762 : (Jvm.Cond.fieldLink "jdk/internal/util/ArraysSupport" (106 : Nat) "jdk/internal/util/ArraysSupport" "JLA" "Ljdk/internal/access/JavaLangAccess;") ∈ lw_all := lw_g (lw_at lw_m3 167 rfl) rfl
theorem q763 : (Jvm.Cond.laysStatic "jdk/internal/util/ArraysSupport" "JLA" "Ljdk/internal/access/JavaLangAccess;") ∈ lw_tbl := lw_at lw_m3 168 rfl
theorem q764 : (Jvm.Cond.interfaceEntry "jdk/internal/util/ArraysSupport" (110 : Nat)) ∈ lw_tbl := lw_at lw_m3 169 rfl
theorem q765 : (Jvm.Cond.methodLink "jdk/internal/util/ArraysSupport" (110 : Nat) ({ cls := "jdk/internal/access/JavaLangAccess", name := "getUTF16Char", desc := "([BI)C" } : Jvm.MethodName)) ∈ lw_all := lw_g (lw_at lw_m3 170 rfl) rfl
theorem q775 : (Jvm.Cond.classLink "jdk/internal/util/ArraysSupport" (69 : Nat) "[C") ∈ lw_all := lw_g (lw_at lw_m3 180 rfl) rfl
theorem q776 : (Jvm.Cond.methodLink "jdk/internal/util/ArraysSupport" (71 : Nat) ({ cls := "jdk/internal/util/ArraysSupport", name := "hashCode", desc := "(I[CII)I" } : Jvm.MethodName)) ∈ lw_all := lw_g (lw_at lw_m3 181 rfl) rfl
theorem q777 : (Jvm.Cond.static ({ cls := "jdk/internal/util/ArraysSupport", name := "hashCode", desc := "(I[CII)I" } : Jvm.MethodName)) ∈ lw_all := lw_g (lw_at lw_m3 182 rfl) rfl
theorem q778 : (Jvm.Cond.code ({ cls := "jdk/internal/util/ArraysSupport", name := "hashCode", desc := "(I[CII)I" } : Jvm.MethodName) prog_56_method_7_code (6 : Nat) (Option.some Jvm.ClassFile.FieldType.int)) ∈ lw_all := lw_g (lw_at lw_m3 183 rfl) rfl
theorem q779 : (Jvm.Cond.methodLink "jdk/internal/util/ArraysSupport" (75 : Nat) ({ cls := "jdk/internal/util/ArraysSupport", name := "hashCode", desc := "(I[BII)I" } : Jvm.MethodName)) ∈ lw_all := lw_g (lw_at lw_m3 184 rfl) rfl
theorem q780 : (Jvm.Cond.static ({ cls := "jdk/internal/util/ArraysSupport", name := "hashCode", desc := "(I[BII)I" } : Jvm.MethodName)) ∈ lw_all := lw_g (lw_at lw_m3 185 rfl) rfl
theorem q781 : (Jvm.Cond.code ({ cls := "jdk/internal/util/ArraysSupport", name := "hashCode", desc := "(I[BII)I" } : Jvm.MethodName) prog_56_method_6_code (6 : Nat) (Option.some Jvm.ClassFile.FieldType.int)) ∈ lw_all := lw_g (lw_at lw_m3 186 rfl) rfl
theorem q782 : (Jvm.Cond.classLink "jdk/internal/util/ArraysSupport" (77 : Nat) "[S") ∈ lw_all := lw_g (lw_at lw_m3 187 rfl) rfl
theorem q783 : (Jvm.Cond.methodLink "jdk/internal/util/ArraysSupport" (79 : Nat) ({ cls := "jdk/internal/util/ArraysSupport", name := "hashCode", desc := "(I[SII)I" } : Jvm.MethodName)) ∈ lw_all := lw_g (lw_at lw_m3 188 rfl) rfl
theorem q784 : (Jvm.Cond.static ({ cls := "jdk/internal/util/ArraysSupport", name := "hashCode", desc := "(I[SII)I" } : Jvm.MethodName)) ∈ lw_all := lw_g (lw_at lw_m3 189 rfl) rfl
theorem q785 : (Jvm.Cond.code ({ cls := "jdk/internal/util/ArraysSupport", name := "hashCode", desc := "(I[SII)I" } : Jvm.MethodName) prog_56_method_8_code (6 : Nat) (Option.some Jvm.ClassFile.FieldType.int)) ∈ lw_all := lw_g (lw_at lw_m3 190 rfl) rfl
theorem q786 : (Jvm.Cond.classLink "jdk/internal/util/ArraysSupport" (82 : Nat) "[I") ∈ lw_all := lw_g (lw_at lw_m3 191 rfl) rfl
theorem q787 : (Jvm.Cond.methodLink "jdk/internal/util/ArraysSupport" (84 : Nat) ({ cls := "jdk/internal/util/ArraysSupport", name := "hashCode", desc := "(I[III)I" } : Jvm.MethodName)) ∈ lw_all := lw_g (lw_at lw_m3 192 rfl) rfl
theorem q788 : (Jvm.Cond.static ({ cls := "jdk/internal/util/ArraysSupport", name := "hashCode", desc := "(I[III)I" } : Jvm.MethodName)) ∈ lw_all := lw_g (lw_at lw_m3 193 rfl) rfl
theorem q789 : (Jvm.Cond.code ({ cls := "jdk/internal/util/ArraysSupport", name := "hashCode", desc := "(I[III)I" } : Jvm.MethodName) prog_56_method_9_code (6 : Nat) (Option.some Jvm.ClassFile.FieldType.int)) ∈ lw_all := lw_g (lw_at lw_m3 194 rfl) rfl
theorem q790 : (Jvm.Cond.classLink "jdk/internal/util/ArraysSupport" (87 : Nat) "java/lang/IllegalArgumentException") ∈ lw_all := lw_g (lw_at lw_m3 195 rfl) rfl
theorem q791 : (Jvm.Cond.classLink "jdk/internal/util/ArraysSupport" (89 : Nat) "java/lang/StringBuilder") ∈ lw_all := lw_g (lw_at lw_m3 196 rfl) rfl
theorem q792 : (Jvm.Cond.methodLink "jdk/internal/util/ArraysSupport" (91 : Nat) ({ cls := "java/lang/StringBuilder", name := "<init>", desc := "()V" } : Jvm.MethodName)) ∈ lw_all := lw_g (lw_at lw_m3 197 rfl) rfl
theorem q793 : (Jvm.Cond.stringRef "jdk/internal/util/ArraysSupport" (92 : Nat) "unrecognized basic type: ") ∈ lw_tbl := lw_at lw_m3 198 rfl
theorem q794 : (Jvm.Cond.methodLink "jdk/internal/util/ArraysSupport" (94 : Nat) ({ cls := "java/lang/StringBuilder", name := "append", desc := "(Ljava/lang/String;)Ljava/lang/StringBuilder;" } : Jvm.MethodName)) ∈ lw_all := lw_g (lw_at lw_m3 199 rfl) rfl
theorem q795 : (Jvm.Cond.methodLink "jdk/internal/util/ArraysSupport" (98 : Nat) ({ cls := "java/lang/StringBuilder", name := "append", desc := "(I)Ljava/lang/StringBuilder;" } : Jvm.MethodName)) ∈ lw_all := lw_g (lw_at lw_m3 200 rfl) rfl
theorem q796 : (Jvm.Cond.methodLink "jdk/internal/util/ArraysSupport" (101 : Nat) ({ cls := "java/lang/StringBuilder", name := "toString", desc := "()Ljava/lang/String;" } : Jvm.MethodName)) ∈ lw_all := lw_g (lw_at lw_m3 201 rfl) rfl
theorem q797 : (Jvm.Cond.methodLink "jdk/internal/util/ArraysSupport" (105 : Nat) ({ cls := "java/lang/IllegalArgumentException", name := "<init>", desc := "(Ljava/lang/String;)V" } : Jvm.MethodName)) ∈ lw_all := lw_g (lw_at lw_m3 202 rfl) rfl

/-! java/lang/Math -/
set_option maxRecDepth 100000
def RJ17 : String := "java/lang/Math"
abbrev cJ17_max : ByteArray := prog_26_method_65_code
def yJ17_max : MethodName := ⟨RJ17, "max", "(II)I"⟩
def dkwJ17_max_0 : List UInt8 := [26, 27, 161, 0, 7, 26, 167, 0, 4, 27, 172]
abbrev dktJ17_max_0 : List UInt8 := dkwJ17_max_0 ++ []
theorem dksJ17_max_0 : cJ17_max.data.toList.drop 0 = dktJ17_max_0 := by decide +kernel
theorem dJ17_max_0 : decode cJ17_max 0 = .ok (.iload_n 0, 1) := dk_26 (dk_at dksJ17_max_0 0 rfl rfl)
theorem dJ17_max_1 : decode cJ17_max 1 = .ok (.iload_n 1, 1) := dk_27 (dk_at dksJ17_max_0 1 rfl rfl)
theorem dJ17_max_2 : decode cJ17_max 2 = .ok (.if_icmp .lt 7, 3) := dk_161 0 7 (dk_at dksJ17_max_0 2 rfl rfl)
theorem dJ17_max_5 : decode cJ17_max 5 = .ok (.iload_n 0, 1) := dk_26 (dk_at dksJ17_max_0 5 rfl rfl)
theorem dJ17_max_6 : decode cJ17_max 6 = .ok (.goto 4, 3) := dk_167 0 4 (dk_at dksJ17_max_0 6 rfl rfl)
theorem dJ17_max_9 : decode cJ17_max 9 = .ok (.iload_n 1, 1) := dk_27 (dk_at dksJ17_max_0 9 rfl rfl)
theorem dJ17_max_10 : decode cJ17_max 10 = .ok (.ireturn, 1) := dk_172 (dk_at dksJ17_max_0 10 rfl rfl)
abbrev cJ17_min : ByteArray := prog_26_method_69_code
def yJ17_min : MethodName := ⟨RJ17, "min", "(II)I"⟩
def dkwJ17_min_0 : List UInt8 := [26, 27, 163, 0, 7, 26, 167, 0, 4, 27, 172]
abbrev dktJ17_min_0 : List UInt8 := dkwJ17_min_0 ++ []
theorem dksJ17_min_0 : cJ17_min.data.toList.drop 0 = dktJ17_min_0 := by decide +kernel
theorem dJ17_min_0 : decode cJ17_min 0 = .ok (.iload_n 0, 1) := dk_26 (dk_at dksJ17_min_0 0 rfl rfl)
theorem dJ17_min_1 : decode cJ17_min 1 = .ok (.iload_n 1, 1) := dk_27 (dk_at dksJ17_min_0 1 rfl rfl)
theorem dJ17_min_2 : decode cJ17_min 2 = .ok (.if_icmp .gt 7, 3) := dk_163 0 7 (dk_at dksJ17_min_0 2 rfl rfl)
theorem dJ17_min_5 : decode cJ17_min 5 = .ok (.iload_n 0, 1) := dk_26 (dk_at dksJ17_min_0 5 rfl rfl)
theorem dJ17_min_6 : decode cJ17_min 6 = .ok (.goto 4, 3) := dk_167 0 4 (dk_at dksJ17_min_0 6 rfl rfl)
theorem dJ17_min_9 : decode cJ17_min 9 = .ok (.iload_n 1, 1) := dk_27 (dk_at dksJ17_min_0 9 rfl rfl)
theorem dJ17_min_10 : decode cJ17_min 10 = .ok (.ireturn, 1) := dk_172 (dk_at dksJ17_min_0 10 rfl rfl)
abbrev cJ17_abs : ByteArray := prog_26_method_59_code
def yJ17_abs : MethodName := ⟨RJ17, "abs", "(I)I"⟩
def dkwJ17_abs_0 : List UInt8 := [26, 156, 0, 8, 26, 116, 167, 0, 4, 26, 172]
abbrev dktJ17_abs_0 : List UInt8 := dkwJ17_abs_0 ++ []
theorem dksJ17_abs_0 : cJ17_abs.data.toList.drop 0 = dktJ17_abs_0 := by decide +kernel
theorem dJ17_abs_0 : decode cJ17_abs 0 = .ok (.iload_n 0, 1) := dk_26 (dk_at dksJ17_abs_0 0 rfl rfl)
theorem dJ17_abs_1 : decode cJ17_abs 1 = .ok (.ifCond .ge 8, 3) := dk_156 0 8 (dk_at dksJ17_abs_0 1 rfl rfl)
theorem dJ17_abs_4 : decode cJ17_abs 4 = .ok (.iload_n 0, 1) := dk_26 (dk_at dksJ17_abs_0 4 rfl rfl)
theorem dJ17_abs_5 : decode cJ17_abs 5 = .ok (.ineg, 1) := dk_116 (dk_at dksJ17_abs_0 5 rfl rfl)
theorem dJ17_abs_6 : decode cJ17_abs 6 = .ok (.goto 4, 3) := dk_167 0 4 (dk_at dksJ17_abs_0 6 rfl rfl)
theorem dJ17_abs_9 : decode cJ17_abs 9 = .ok (.iload_n 0, 1) := dk_26 (dk_at dksJ17_abs_0 9 rfl rfl)
theorem dJ17_abs_10 : decode cJ17_abs 10 = .ok (.ireturn, 1) := dk_172 (dk_at dksJ17_abs_0 10 rfl rfl)
theorem q139 : (Jvm.Cond.initialized "java/lang/Math") ∈ lw_all := lw_g (lw_at lw_m1 24 rfl) rfl
theorem q448 : (Jvm.Cond.static ({ cls := "java/lang/Math", name := "max", desc := "(II)I" } : Jvm.MethodName)) ∈ lw_all := lw_g (lw_at lw_m2 93 rfl) rfl
theorem q449 : (Jvm.Cond.code ({ cls := "java/lang/Math", name := "max", desc := "(II)I" } : Jvm.MethodName) prog_26_method_65_code (2 : Nat) (Option.some Jvm.ClassFile.FieldType.int)) ∈ lw_all := lw_g (lw_at lw_m2 94 rfl) rfl
theorem q466 : (Jvm.Cond.static ({ cls := "java/lang/Math", name := "min", desc := "(II)I" } : Jvm.MethodName)) ∈ lw_all := lw_g (lw_at lw_m2 111 rfl) rfl
theorem q467 : (Jvm.Cond.code ({ cls := "java/lang/Math", name := "min", desc := "(II)I" } : Jvm.MethodName) prog_26_method_69_code (2 : Nat) (Option.some Jvm.ClassFile.FieldType.int)) ∈ lw_all := lw_g (lw_at lw_m2 112 rfl) rfl
theorem q1606 : (Jvm.Cond.static ({ cls := "java/lang/Math", name := "abs", desc := "(I)I" } : Jvm.MethodName)) ∈ lw_all := lw_g (lw_at lw_m7 51 rfl) rfl
theorem q1607 : (Jvm.Cond.code ({ cls := "java/lang/Math", name := "abs", desc := "(I)I" } : Jvm.MethodName) prog_26_method_59_code (1 : Nat) (Option.some Jvm.ClassFile.FieldType.int)) ∈ lw_all := lw_g (lw_at lw_m7 52 rfl) rfl

/-! java/lang/Record -/
set_option maxRecDepth 100000
def RJ18 : String := "java/lang/Record"
abbrev cJ18_init : ByteArray := prog_28_method_1_code
def yJ18_init : MethodName := ⟨RJ18, "<init>", "()V"⟩
theorem dJ18_init_0 : decode cJ18_init 0 = .ok (.aload_n 0, 1) := by decide +kernel
theorem dJ18_init_1 : decode cJ18_init 1 = .ok (.invokespecial 1, 3) := by decide +kernel
theorem dJ18_init_4 : decode cJ18_init 4 = .ok (.return_, 1) := by decide +kernel
theorem q143 : (Jvm.Cond.initialized "java/lang/Record") ∈ lw_all := lw_g (lw_at lw_m1 28 rfl) rfl
theorem q918 : (Jvm.Cond.instanceMethod ({ cls := "java/lang/Record", name := "<init>", desc := "()V" } : Jvm.MethodName)) ∈ lw_all := lw_g (lw_at lw_m4 83 rfl) rfl
theorem q919 : (Jvm.Cond.code ({ cls := "java/lang/Record", name := "<init>", desc := "()V" } : Jvm.MethodName) prog_28_method_1_code (1 : Nat) (Option.none : Option Jvm.ClassFile.FieldType)) ∈ lw_all := lw_g (lw_at lw_m4 84 rfl) rfl
theorem q920 : (Jvm.Cond.methodLink "java/lang/Record" (1 : Nat) ({ cls := "java/lang/Object", name := "<init>", desc := "()V" } : Jvm.MethodName)) ∈ lw_all := lw_g (lw_at lw_m4 85 rfl) rfl

/-! java/util/Objects -/
set_option maxRecDepth 100000
def RJ19 : String := "java/util/Objects"
abbrev cJ19_checkIndex : ByteArray := prog_51_method_17_code
def yJ19_checkIndex : MethodName := ⟨RJ19, "checkIndex", "(II)I"⟩
def dkwJ19_checkIndex_0 : List UInt8 := [26, 27, 1, 184, 0, 105, 172]
abbrev dktJ19_checkIndex_0 : List UInt8 := dkwJ19_checkIndex_0 ++ []
theorem dksJ19_checkIndex_0 : cJ19_checkIndex.data.toList.drop 0 = dktJ19_checkIndex_0 := by decide +kernel
theorem dJ19_checkIndex_0 : decode cJ19_checkIndex 0 = .ok (.iload_n 0, 1) := dk_26 (dk_at dksJ19_checkIndex_0 0 rfl rfl)
theorem dJ19_checkIndex_1 : decode cJ19_checkIndex 1 = .ok (.iload_n 1, 1) := dk_27 (dk_at dksJ19_checkIndex_0 1 rfl rfl)
theorem dJ19_checkIndex_2 : decode cJ19_checkIndex 2 = .ok (.aconst_null, 1) := dk_1 (dk_at dksJ19_checkIndex_0 2 rfl rfl)
theorem dJ19_checkIndex_3 : decode cJ19_checkIndex 3 = .ok (.invokestatic 105, 3) := dk_184 0 105 (dk_at dksJ19_checkIndex_0 3 rfl rfl)
theorem dJ19_checkIndex_6 : decode cJ19_checkIndex 6 = .ok (.ireturn, 1) := dk_172 (dk_at dksJ19_checkIndex_0 6 rfl rfl)
theorem q145 : (Jvm.Cond.initialized "java/util/Objects") ∈ lw_all := lw_g (lw_at lw_m1 30 rfl) rfl
theorem q947 : (Jvm.Cond.static ({ cls := "java/util/Objects", name := "checkIndex", desc := "(II)I" } : Jvm.MethodName)) ∈ lw_all := lw_g (lw_at lw_m4 112 rfl) rfl
theorem q948 : (Jvm.Cond.code ({ cls := "java/util/Objects", name := "checkIndex", desc := "(II)I" } : Jvm.MethodName) prog_51_method_17_code (2 : Nat) (Option.some Jvm.ClassFile.FieldType.int)) ∈ lw_all := lw_g (lw_at lw_m4 113 rfl) rfl
theorem q949 : (Jvm.Cond.methodLink "java/util/Objects" (105 : Nat) ({ cls := "jdk/internal/util/Preconditions", name := "checkIndex", desc := "(IILjava/util/function/BiFunction;)I" } : Jvm.MethodName)) ∈ lw_all := lw_g (lw_at lw_m4 114 rfl) rfl

/-! java/lang/IllegalStateException -/
set_option maxRecDepth 100000
def RJ20 : String := "java/lang/IllegalStateException"
def TJ20 : u_T := fun k => match k with
  | 0 => ("java/lang/Throwable", "cause", "Ljava/lang/Throwable;", false)
  | 1 => ("java/lang/Throwable", "stackTrace", "[Ljava/lang/StackTraceElement;", false)
  | 2 => ("java/lang/Throwable", "suppressedExceptions", "Ljava/util/List;", false)
  | 3 => ("java/lang/Throwable", "detailMessage", "Ljava/lang/String;", false)
  | 4 => ("java/lang/Throwable", "backtrace", "Ljava/lang/Object;", false)
  | _ => ("java/lang/Throwable", "depth", "I", false)
def tyJ20 : Nat → FieldType := fun k => match k with
  | 0 => .object "java/lang/Throwable"
  | 1 => .array (.object "java/lang/StackTraceElement")
  | 2 => .object "java/util/List"
  | 3 => .object "java/lang/String"
  | 4 => .object "java/lang/Object"
  | _ => .int
abbrev wsJ200 : List Cond := u_ws RJ20 TJ20 6
theorem nmJ20 : ∀ a, a < 6 → ∀ b, b < 6 → a ≠ b → (TJ20 a).2.1 ≠ (TJ20 b).2.1 := by decide +kernel
theorem tyJ20_ok : ∀ k, k < 6 → parseFieldDescriptor (TJ20 k).2.2.1 = some (tyJ20 k) := by decide +kernel
abbrev cJ20_init : ByteArray := prog_22_method_1_code
def yJ20_init : MethodName := ⟨RJ20, "<init>", "()V"⟩
theorem dJ20_init_0 : decode cJ20_init 0 = .ok (.aload_n 0, 1) := by decide +kernel
theorem dJ20_init_1 : decode cJ20_init 1 = .ok (.invokespecial 1, 3) := by decide +kernel
theorem dJ20_init_4 : decode cJ20_init 4 = .ok (.return_, 1) := by decide +kernel
abbrev cJ20_init_2 : ByteArray := prog_22_method_2_code
def yJ20_init_2 : MethodName := ⟨RJ20, "<init>", "(Ljava/lang/String;)V"⟩
def dkwJ20_init_2_0 : List UInt8 := [42, 43, 183, 0, 7, 177]
abbrev dktJ20_init_2_0 : List UInt8 := dkwJ20_init_2_0 ++ []
theorem dksJ20_init_2_0 : cJ20_init_2.data.toList.drop 0 = dktJ20_init_2_0 := by decide +kernel
theorem dJ20_init_2_0 : decode cJ20_init_2 0 = .ok (.aload_n 0, 1) := dk_42 (dk_at dksJ20_init_2_0 0 rfl rfl)
theorem dJ20_init_2_1 : decode cJ20_init_2 1 = .ok (.aload_n 1, 1) := dk_43 (dk_at dksJ20_init_2_0 1 rfl rfl)
theorem dJ20_init_2_2 : decode cJ20_init_2 2 = .ok (.invokespecial 7, 3) := dk_183 0 7 (dk_at dksJ20_init_2_0 2 rfl rfl)
theorem dJ20_init_2_5 : decode cJ20_init_2 5 = .ok (.return_, 1) := dk_177 (dk_at dksJ20_init_2_0 5 rfl rfl)
theorem q148 : (Jvm.Cond.initialized "java/lang/IllegalStateException") ∈ lw_all := lw_g (lw_at lw_m1 33 rfl) rfl
theorem q414 : (Jvm.Cond.selects "java/lang/IllegalStateException" ({ cls := "java/lang/Throwable", name := "fillInStackTrace", desc := "()Ljava/lang/Throwable;" } : Jvm.MethodName) ({ cls := "java/lang/Throwable", name := "fillInStackTrace", desc := "()Ljava/lang/Throwable;" } : Jvm.MethodName)) ∈ lw_all := lw_g (lw_at lw_m2 59 rfl) rfl
theorem q886 : (Jvm.Cond.selects "java/lang/IllegalStateException" ({ cls := "java/lang/Object", name := "getClass", desc := "()Ljava/lang/Class;" } : Jvm.MethodName) ({ cls := "java/lang/Object", name := "getClass", desc := "()Ljava/lang/Class;" } : Jvm.MethodName)) ∈ lw_all := lw_g (lw_at lw_m4 51 rfl) rfl
theorem q1202 : (Jvm.Cond.instantiable "java/lang/IllegalStateException" (6 : Nat)) ∈ lw_all := lw_g (lw_at lw_m5 127 rfl) rfl
theorem q1203 : (Jvm.Cond.castable "java/lang/IllegalStateException" "java/lang/IllegalStateException") ∈ lw_tbl := lw_at lw_m5 128 rfl
theorem q1204 : (Jvm.Cond.selects "java/lang/IllegalStateException" ({ cls := "java/lang/Throwable", name := "fillInStackTrace", desc := "(I)Ljava/lang/Throwable;" } : Jvm.MethodName) ({ cls := "java/lang/Throwable", name := "fillInStackTrace", desc := "(I)Ljava/lang/Throwable;" } : Jvm.MethodName)) ∈ lw_all := lw_g (lw_at lw_m5 129 rfl) rfl
theorem q1205 : (Jvm.Cond.lays "java/lang/IllegalStateException" "java/lang/Throwable" "cause" "Ljava/lang/Throwable;") ∈ lw_all := lw_g (lw_at lw_m5 130 rfl) rfl
theorem q1206 : (Jvm.Cond.lays "java/lang/IllegalStateException" "java/lang/Throwable" "stackTrace" "[Ljava/lang/StackTraceElement;") ∈ lw_all := lw_g (lw_at lw_m5 131 rfl) rfl
theorem q1207 : (Jvm.Cond.lays "java/lang/IllegalStateException" "java/lang/Throwable" "suppressedExceptions" "Ljava/util/List;") ∈ lw_all := lw_g (lw_at lw_m5 132 rfl) rfl
theorem q1208 : (Jvm.Cond.lays "java/lang/IllegalStateException" "java/lang/Throwable" "detailMessage" "Ljava/lang/String;") ∈ lw_all := lw_g (lw_at lw_m5 133 rfl) rfl
theorem q1209 : (Jvm.Cond.lays "java/lang/IllegalStateException" "java/lang/Throwable" "backtrace" "Ljava/lang/Object;") ∈ lw_all := lw_g (lw_at lw_m5 134 rfl) rfl
theorem q1211 : (Jvm.Cond.instanceMethod ({ cls := "java/lang/IllegalStateException", name := "<init>", desc := "()V" } : Jvm.MethodName)) ∈ lw_all := lw_g (lw_at lw_m5 136 rfl) rfl
theorem q1212 : (Jvm.Cond.code ({ cls := "java/lang/IllegalStateException", name := "<init>", desc := "()V" } : Jvm.MethodName) prog_22_method_1_code (1 : Nat) (Option.none : Option Jvm.ClassFile.FieldType)) ∈ lw_all := lw_g (lw_at lw_m5 137 rfl) rfl
theorem q1213 : (Jvm.Cond.methodLink "java/lang/IllegalStateException" (1 : Nat) ({ cls := "java/lang/RuntimeException", name := "<init>", desc := "()V" } : Jvm.MethodName)) ∈ lw_all := lw_g (lw_at lw_m5 138 rfl) rfl
theorem q1217 : (Jvm.Cond.lays "java/lang/IllegalStateException" "java/lang/Throwable" "depth" "I") ∈ lw_all := lw_g (lw_at lw_m5 142 rfl) rfl
theorem q1218 : (Jvm.Cond.superclass "java/lang/IllegalStateException" "java/lang/RuntimeException") ∈ lw_all := lw_g (lw_at lw_m5 143 rfl) rfl
theorem q1359 : (Jvm.Cond.instanceMethod ({ cls := "java/lang/IllegalStateException", name := "<init>", desc := "(Ljava/lang/String;)V" } : Jvm.MethodName)) ∈ lw_all := lw_g (lw_at lw_m6 44 rfl) rfl
theorem q1360 : (Jvm.Cond.code ({ cls := "java/lang/IllegalStateException", name := "<init>", desc := "(Ljava/lang/String;)V" } : Jvm.MethodName) prog_22_method_2_code (2 : Nat) (Option.none : Option Jvm.ClassFile.FieldType)) ∈ lw_all := lw_g (lw_at lw_m6 45 rfl) rfl
theorem q1361 : (Jvm.Cond.methodLink "java/lang/IllegalStateException" (7 : Nat) ({ cls := "java/lang/RuntimeException", name := "<init>", desc := "(Ljava/lang/String;)V" } : Jvm.MethodName)) ∈ lw_all := lw_g (lw_at lw_m6 46 rfl) rfl
theorem q2734 : (Jvm.Cond.castable "java/lang/IllegalStateException" "java/lang/Object") ∈ lw_tbl := lw_at lw_m11 219 rfl
theorem in_J20 : ∀ w ∈ wsJ200, w ∈ lw_all := lw_in wsJ200 [1205, 1206, 1207, 1208, 1209, 1217] (by decide +kernel) (by decide +kernel)

/-! java/lang/IndexOutOfBoundsException -/
set_option maxRecDepth 100000
def RJ21 : String := "java/lang/IndexOutOfBoundsException"
def TJ21 : u_T := fun k => match k with
  | 0 => ("java/lang/Throwable", "cause", "Ljava/lang/Throwable;", false)
  | 1 => ("java/lang/Throwable", "stackTrace", "[Ljava/lang/StackTraceElement;", false)
  | 2 => ("java/lang/Throwable", "suppressedExceptions", "Ljava/util/List;", false)
  | 3 => ("java/lang/Throwable", "detailMessage", "Ljava/lang/String;", false)
  | 4 => ("java/lang/Throwable", "backtrace", "Ljava/lang/Object;", false)
  | _ => ("java/lang/Throwable", "depth", "I", false)
def tyJ21 : Nat → FieldType := fun k => match k with
  | 0 => .object "java/lang/Throwable"
  | 1 => .array (.object "java/lang/StackTraceElement")
  | 2 => .object "java/util/List"
  | 3 => .object "java/lang/String"
  | 4 => .object "java/lang/Object"
  | _ => .int
abbrev wsJ210 : List Cond := u_ws RJ21 TJ21 6
theorem nmJ21 : ∀ a, a < 6 → ∀ b, b < 6 → a ≠ b → (TJ21 a).2.1 ≠ (TJ21 b).2.1 := by decide +kernel
theorem tyJ21_ok : ∀ k, k < 6 → parseFieldDescriptor (TJ21 k).2.2.1 = some (tyJ21 k) := by decide +kernel
abbrev cJ21_init : ByteArray := prog_23_method_2_code
def yJ21_init : MethodName := ⟨RJ21, "<init>", "(Ljava/lang/String;)V"⟩
def dkwJ21_init_0 : List UInt8 := [42, 43, 183, 0, 7, 177]
abbrev dktJ21_init_0 : List UInt8 := dkwJ21_init_0 ++ []
theorem dksJ21_init_0 : cJ21_init.data.toList.drop 0 = dktJ21_init_0 := by decide +kernel
theorem dJ21_init_0 : decode cJ21_init 0 = .ok (.aload_n 0, 1) := dk_42 (dk_at dksJ21_init_0 0 rfl rfl)
theorem dJ21_init_1 : decode cJ21_init 1 = .ok (.aload_n 1, 1) := dk_43 (dk_at dksJ21_init_0 1 rfl rfl)
theorem dJ21_init_2 : decode cJ21_init 2 = .ok (.invokespecial 7, 3) := dk_183 0 7 (dk_at dksJ21_init_0 2 rfl rfl)
theorem dJ21_init_5 : decode cJ21_init 5 = .ok (.return_, 1) := dk_177 (dk_at dksJ21_init_0 5 rfl rfl)
abbrev cJ21_init_2 : ByteArray := prog_23_method_1_code
def yJ21_init_2 : MethodName := ⟨RJ21, "<init>", "()V"⟩
theorem dJ21_init_2_0 : decode cJ21_init_2 0 = .ok (.aload_n 0, 1) := by decide +kernel
theorem dJ21_init_2_1 : decode cJ21_init_2 1 = .ok (.invokespecial 1, 3) := by decide +kernel
theorem dJ21_init_2_4 : decode cJ21_init_2 4 = .ok (.return_, 1) := by decide +kernel
theorem q150 : (Jvm.Cond.initialized "java/lang/IndexOutOfBoundsException") ∈ lw_all := lw_g (lw_at lw_m1 35 rfl) rfl
theorem q415 : (Jvm.Cond.selects "java/lang/IndexOutOfBoundsException" ({ cls := "java/lang/Throwable", name := "fillInStackTrace", desc := "()Ljava/lang/Throwable;" } : Jvm.MethodName) ({ cls := "java/lang/Throwable", name := "fillInStackTrace", desc := "()Ljava/lang/Throwable;" } : Jvm.MethodName)) ∈ lw_all := lw_g (lw_at lw_m2 60 rfl) rfl
theorem q887 : (Jvm.Cond.selects "java/lang/IndexOutOfBoundsException" ({ cls := "java/lang/Object", name := "getClass", desc := "()Ljava/lang/Class;" } : Jvm.MethodName) ({ cls := "java/lang/Object", name := "getClass", desc := "()Ljava/lang/Class;" } : Jvm.MethodName)) ∈ lw_all := lw_g (lw_at lw_m4 52 rfl) rfl
theorem q1287 : (Jvm.Cond.instanceMethod ({ cls := "java/lang/IndexOutOfBoundsException", name := "<init>", desc := "(Ljava/lang/String;)V" } : Jvm.MethodName)) ∈ lw_all := lw_g (lw_at lw_m5 212 rfl) rfl
theorem q1288 : (Jvm.Cond.code ({ cls := "java/lang/IndexOutOfBoundsException", name := "<init>", desc := "(Ljava/lang/String;)V" } : Jvm.MethodName) prog_23_method_2_code (2 : Nat) (Option.none : Option Jvm.ClassFile.FieldType)) ∈ lw_all := lw_g (lw_at lw_m5 213 rfl) rfl
theorem q1289 : (Jvm.Cond.methodLink "java/lang/IndexOutOfBoundsException" (7 : Nat) ({ cls := "java/lang/RuntimeException", name := "<init>", desc := "(Ljava/lang/String;)V" } : Jvm.MethodName)) ∈ lw_all := lw_g (lw_at lw_m5 214 rfl) rfl
theorem q1312 : (Jvm.Cond.declares ({ cls := "java/lang/IndexOutOfBoundsException", name := "<init>", desc := "()V" } : Jvm.MethodName)) ∈ lw_tbl := lw_at lw_m5 237 rfl
theorem q1313 : (Jvm.Cond.declares ({ cls := "java/lang/IndexOutOfBoundsException", name := "<init>", desc := "(Ljava/lang/String;)V" } : Jvm.MethodName)) ∈ lw_tbl := lw_at lw_m5 238 rfl
theorem q1679 : (Jvm.Cond.instantiable "java/lang/IndexOutOfBoundsException" (6 : Nat)) ∈ lw_all := lw_g (lw_at lw_m7 124 rfl) rfl
theorem q1680 : (Jvm.Cond.castable "java/lang/IndexOutOfBoundsException" "java/lang/IndexOutOfBoundsException") ∈ lw_tbl := lw_at lw_m7 125 rfl
theorem q1681 : (Jvm.Cond.selects "java/lang/IndexOutOfBoundsException" ({ cls := "java/lang/Throwable", name := "fillInStackTrace", desc := "(I)Ljava/lang/Throwable;" } : Jvm.MethodName) ({ cls := "java/lang/Throwable", name := "fillInStackTrace", desc := "(I)Ljava/lang/Throwable;" } : Jvm.MethodName)) ∈ lw_all := lw_g (lw_at lw_m7 126 rfl) rfl
theorem q1682 : (Jvm.Cond.lays "java/lang/IndexOutOfBoundsException" "java/lang/Throwable" "cause" "Ljava/lang/Throwable;") ∈ lw_all := lw_g (lw_at lw_m7 127 rfl) rfl
theorem q1683 : (Jvm.Cond.lays "java/lang/IndexOutOfBoundsException" "java/lang/Throwable" "stackTrace" "[Ljava/lang/StackTraceElement;") ∈ lw_all := lw_g (lw_at lw_m7 128 rfl) rfl
theorem q1684 : (Jvm.Cond.lays "java/lang/IndexOutOfBoundsException" "java/lang/Throwable" "suppressedExceptions" "Ljava/util/List;") ∈ lw_all := lw_g (lw_at lw_m7 129 rfl) rfl
theorem q1685 : (Jvm.Cond.lays "java/lang/IndexOutOfBoundsException" "java/lang/Throwable" "detailMessage" "Ljava/lang/String;") ∈ lw_all := lw_g (lw_at lw_m7 130 rfl) rfl
theorem q1686 : (Jvm.Cond.lays "java/lang/IndexOutOfBoundsException" "java/lang/Throwable" "backtrace" "Ljava/lang/Object;") ∈ lw_all := lw_g (lw_at lw_m7 131 rfl) rfl
theorem q1688 : (Jvm.Cond.instanceMethod ({ cls := "java/lang/IndexOutOfBoundsException", name := "<init>", desc := "()V" } : Jvm.MethodName)) ∈ lw_all := lw_g (lw_at lw_m7 133 rfl) rfl
theorem q1689 : (Jvm.Cond.code ({ cls := "java/lang/IndexOutOfBoundsException", name := "<init>", desc := "()V" } : Jvm.MethodName) prog_23_method_1_code (1 : Nat) (Option.none : Option Jvm.ClassFile.FieldType)) ∈ lw_all := lw_g (lw_at lw_m7 134 rfl) rfl
theorem q1690 : (Jvm.Cond.methodLink "java/lang/IndexOutOfBoundsException" (1 : Nat) ({ cls := "java/lang/RuntimeException", name := "<init>", desc := "()V" } : Jvm.MethodName)) ∈ lw_all := lw_g (lw_at lw_m7 135 rfl) rfl
theorem q1691 : (Jvm.Cond.lays "java/lang/IndexOutOfBoundsException" "java/lang/Throwable" "depth" "I") ∈ lw_all := lw_g (lw_at lw_m7 136 rfl) rfl
theorem q1692 : (Jvm.Cond.superclass "java/lang/IndexOutOfBoundsException" "java/lang/RuntimeException") ∈ lw_all := lw_g (lw_at lw_m7 137 rfl) rfl
theorem q2740 : (Jvm.Cond.castable "java/lang/IndexOutOfBoundsException" "java/lang/Object") ∈ lw_tbl := lw_at lw_m11 225 rfl
theorem in_J21 : ∀ w ∈ wsJ210, w ∈ lw_all := lw_in wsJ210 [1682, 1683, 1684, 1685, 1686, 1691] (by decide +kernel) (by decide +kernel)

/-! java/lang/StringIndexOutOfBoundsException -/
set_option maxRecDepth 100000
def RJ22 : String := "java/lang/StringIndexOutOfBoundsException"
def TJ22 : u_T := fun k => match k with
  | 0 => ("java/lang/Throwable", "backtrace", "Ljava/lang/Object;", false)
  | 1 => ("java/lang/Throwable", "detailMessage", "Ljava/lang/String;", false)
  | 2 => ("java/lang/Throwable", "cause", "Ljava/lang/Throwable;", false)
  | 3 => ("java/lang/Throwable", "stackTrace", "[Ljava/lang/StackTraceElement;", false)
  | 4 => ("java/lang/Throwable", "depth", "I", false)
  | _ => ("java/lang/Throwable", "suppressedExceptions", "Ljava/util/List;", false)
def tyJ22 : Nat → FieldType := fun k => match k with
  | 0 => .object "java/lang/Object"
  | 1 => .object "java/lang/String"
  | 2 => .object "java/lang/Throwable"
  | 3 => .array (.object "java/lang/StackTraceElement")
  | 4 => .int
  | _ => .object "java/util/List"
abbrev wsJ220 : List Cond := u_ws RJ22 TJ22 6
theorem nmJ22 : ∀ a, a < 6 → ∀ b, b < 6 → a ≠ b → (TJ22 a).2.1 ≠ (TJ22 b).2.1 := by decide +kernel
theorem tyJ22_ok : ∀ k, k < 6 → parseFieldDescriptor (TJ22 k).2.2.1 = some (tyJ22 k) := by decide +kernel
abbrev cJ22_init : ByteArray := prog_32_method_3_code
def yJ22_init : MethodName := ⟨RJ22, "<init>", "(I)V"⟩
def dkwJ22_init_0 : List UInt8 := [42, 187, 0, 10, 89, 183, 0, 12, 18, 13, 182, 0, 15, 27, 182, 0, 19, 182, 0, 22, 183, 0, 7, 177]
abbrev dktJ22_init_0 : List UInt8 := dkwJ22_init_0 ++ []
theorem dksJ22_init_0 : cJ22_init.data.toList.drop 0 = dktJ22_init_0 := by decide +kernel
theorem dJ22_init_0 : decode cJ22_init 0 = .ok (.aload_n 0, 1) := dk_42 (dk_at dksJ22_init_0 0 rfl rfl)
theorem dJ22_init_1 : decode cJ22_init 1 = .ok (.new 10, 3) := dk_187 0 10 (dk_at dksJ22_init_0 1 rfl rfl)
theorem dJ22_init_4 : decode cJ22_init 4 = .ok (.dup, 1) := dk_89 (dk_at dksJ22_init_0 4 rfl rfl)
theorem dJ22_init_5 : decode cJ22_init 5 = .ok (.invokespecial 12, 3) := dk_183 0 12 (dk_at dksJ22_init_0 5 rfl rfl)
theorem dJ22_init_8 : decode cJ22_init 8 = .ok (.ldc 13, 2) := dk_18 13 (dk_at dksJ22_init_0 8 rfl rfl)
theorem dJ22_init_10 : decode cJ22_init 10 = .ok (.invokevirtual 15, 3) := dk_182 0 15 (dk_at dksJ22_init_0 10 rfl rfl)
theorem dJ22_init_13 : decode cJ22_init 13 = .ok (.iload_n 1, 1) := dk_27 (dk_at dksJ22_init_0 13 rfl rfl)
theorem dJ22_init_14 : decode cJ22_init 14 = .ok (.invokevirtual 19, 3) := dk_182 0 19 (dk_at dksJ22_init_0 14 rfl rfl)
theorem dJ22_init_17 : decode cJ22_init 17 = .ok (.invokevirtual 22, 3) := dk_182 0 22 (dk_at dksJ22_init_0 17 rfl rfl)
theorem dJ22_init_20 : decode cJ22_init 20 = .ok (.invokespecial 7, 3) := dk_183 0 7 (dk_at dksJ22_init_0 20 rfl rfl)
theorem dJ22_init_23 : decode cJ22_init 23 = .ok (.return_, 1) := dk_177 (dk_at dksJ22_init_0 23 rfl rfl)
theorem q151 : (Jvm.Cond.initialized "java/lang/StringIndexOutOfBoundsException") ∈ lw_all := lw_g (lw_at lw_m1 36 rfl) rfl
theorem q416 : (Jvm.Cond.selects "java/lang/StringIndexOutOfBoundsException" ({ cls := "java/lang/Throwable", name := "fillInStackTrace", desc := "()Ljava/lang/Throwable;" } : Jvm.MethodName) ({ cls := "java/lang/Throwable", name := "fillInStackTrace", desc := "()Ljava/lang/Throwable;" } : Jvm.MethodName)) ∈ lw_all := lw_g (lw_at lw_m2 61 rfl) rfl
theorem q890 : (Jvm.Cond.selects "java/lang/StringIndexOutOfBoundsException" ({ cls := "java/lang/Object", name := "getClass", desc := "()Ljava/lang/Class;" } : Jvm.MethodName) ({ cls := "java/lang/Object", name := "getClass", desc := "()Ljava/lang/Class;" } : Jvm.MethodName)) ∈ lw_all := lw_g (lw_at lw_m4 55 rfl) rfl
theorem q1276 : (Jvm.Cond.instantiable "java/lang/StringIndexOutOfBoundsException" (6 : Nat)) ∈ lw_all := lw_g (lw_at lw_m5 201 rfl) rfl
theorem q1278 : (Jvm.Cond.instanceMethod ({ cls := "java/lang/StringIndexOutOfBoundsException", name := "<init>", desc := "(I)V" } : Jvm.MethodName)) ∈ lw_all := lw_g (lw_at lw_m5 203 rfl) rfl
theorem q1279 : (Jvm.Cond.code ({ cls := "java/lang/StringIndexOutOfBoundsException", name := "<init>", desc := "(I)V" } : Jvm.MethodName) prog_32_method_3_code (2 : Nat) (Option.none : Option Jvm.ClassFile.FieldType)) ∈ lw_all := lw_g (lw_at lw_m5 204 rfl) rfl
theorem q1280 : (Jvm.Cond.classLink "java/lang/StringIndexOutOfBoundsException" (10 : Nat) "java/lang/StringBuilder") ∈ lw_all := lw_g (lw_at lw_m5 205 rfl) rfl
theorem q1281 : (Jvm.Cond.methodLink "java/lang/StringIndexOutOfBoundsException" (12 : Nat) ({ cls := "java/lang/StringBuilder", name := "<init>", desc := "()V" } : Jvm.MethodName)) ∈ lw_all := lw_g (lw_at lw_m5 206 rfl) rfl
theorem q1282 : (Jvm.Cond.stringRef "java/lang/StringIndexOutOfBoundsException" (13 : Nat) "String index out of range: ") ∈ lw_tbl := lw_at lw_m5 207 rfl
theorem q1283 : (Jvm.Cond.methodLink "java/lang/StringIndexOutOfBoundsException" (15 : Nat) ({ cls := "java/lang/StringBuilder", name := "append", desc := "(Ljava/lang/String;)Ljava/lang/StringBuilder;" } : Jvm.MethodName)) ∈ lw_all := lw_g (lw_at lw_m5 208 rfl) rfl
theorem q1284 : (Jvm.Cond.methodLink "java/lang/StringIndexOutOfBoundsException" (19 : Nat) ({ cls := "java/lang/StringBuilder", name := "append", desc := "(I)Ljava/lang/StringBuilder;" } : Jvm.MethodName)) ∈ lw_all := lw_g (lw_at lw_m5 209 rfl) rfl
theorem q1285 : (Jvm.Cond.methodLink "java/lang/StringIndexOutOfBoundsException" (22 : Nat) ({ cls := "java/lang/StringBuilder", name := "toString", desc := "()Ljava/lang/String;" } : Jvm.MethodName)) ∈ lw_all := lw_g (lw_at lw_m5 210 rfl) rfl
theorem q1286 : (Jvm.Cond.methodLink "java/lang/StringIndexOutOfBoundsException" (7 : Nat) ({ cls := "java/lang/IndexOutOfBoundsException", name := "<init>", desc := "(Ljava/lang/String;)V" } : Jvm.MethodName)) ∈ lw_all := lw_g (lw_at lw_m5 211 rfl) rfl
theorem q1290 : (Jvm.Cond.lays "java/lang/StringIndexOutOfBoundsException" "java/lang/Throwable" "backtrace" "Ljava/lang/Object;") ∈ lw_all := lw_g (lw_at lw_m5 215 rfl) rfl
theorem q1291 : (Jvm.Cond.lays "java/lang/StringIndexOutOfBoundsException" "java/lang/Throwable" "detailMessage" "Ljava/lang/String;") ∈ lw_all := lw_g (lw_at lw_m5 216 rfl) rfl
theorem q1292 : (Jvm.Cond.lays "java/lang/StringIndexOutOfBoundsException" "java/lang/Throwable" "cause" "Ljava/lang/Throwable;") ∈ lw_all := lw_g (lw_at lw_m5 217 rfl) rfl
theorem q1293 : (Jvm.Cond.lays "java/lang/StringIndexOutOfBoundsException" "java/lang/Throwable" "stackTrace" "[Ljava/lang/StackTraceElement;") ∈ lw_all := lw_g (lw_at lw_m5 218 rfl) rfl
theorem q1294 : (Jvm.Cond.lays "java/lang/StringIndexOutOfBoundsException" "java/lang/Throwable" "depth" "I") ∈ lw_all := lw_g (lw_at lw_m5 219 rfl) rfl
theorem q1295 : (Jvm.Cond.lays "java/lang/StringIndexOutOfBoundsException" "java/lang/Throwable" "suppressedExceptions" "Ljava/util/List;") ∈ lw_all := lw_g (lw_at lw_m5 220 rfl) rfl
theorem q1296 : (Jvm.Cond.superclass "java/lang/StringIndexOutOfBoundsException" "java/lang/IndexOutOfBoundsException") ∈ lw_all := lw_g (lw_at lw_m5 221 rfl) rfl
theorem q2718 : (Jvm.Cond.castable "java/lang/StringIndexOutOfBoundsException" "java/lang/IndexOutOfBoundsException") ∈ lw_tbl := lw_at lw_m11 203 rfl
theorem q2736 : (Jvm.Cond.castable "java/lang/StringIndexOutOfBoundsException" "java/lang/Object") ∈ lw_tbl := lw_at lw_m11 221 rfl
theorem in_J22 : ∀ w ∈ wsJ220, w ∈ lw_all := lw_in wsJ220 [1290, 1291, 1292, 1293, 1294, 1295] (by decide +kernel) (by decide +kernel)

/-! java/lang/ArrayIndexOutOfBoundsException -/
set_option maxRecDepth 100000
def RJ23 : String := "java/lang/ArrayIndexOutOfBoundsException"
def TJ23 : u_T := fun k => match k with
  | 0 => ("java/lang/Throwable", "cause", "Ljava/lang/Throwable;", false)
  | 1 => ("java/lang/Throwable", "stackTrace", "[Ljava/lang/StackTraceElement;", false)
  | 2 => ("java/lang/Throwable", "suppressedExceptions", "Ljava/util/List;", false)
  | 3 => ("java/lang/Throwable", "detailMessage", "Ljava/lang/String;", false)
  | 4 => ("java/lang/Throwable", "backtrace", "Ljava/lang/Object;", false)
  | _ => ("java/lang/Throwable", "depth", "I", false)
def tyJ23 : Nat → FieldType := fun k => match k with
  | 0 => .object "java/lang/Throwable"
  | 1 => .array (.object "java/lang/StackTraceElement")
  | 2 => .object "java/util/List"
  | 3 => .object "java/lang/String"
  | 4 => .object "java/lang/Object"
  | _ => .int
abbrev wsJ230 : List Cond := u_ws RJ23 TJ23 6
theorem nmJ23 : ∀ a, a < 6 → ∀ b, b < 6 → a ≠ b → (TJ23 a).2.1 ≠ (TJ23 b).2.1 := by decide +kernel
theorem tyJ23_ok : ∀ k, k < 6 → parseFieldDescriptor (TJ23 k).2.2.1 = some (tyJ23 k) := by decide +kernel
abbrev cJ23_init : ByteArray := prog_15_method_3_code
def yJ23_init : MethodName := ⟨RJ23, "<init>", "(I)V"⟩
def dkwJ23_init_0 : List UInt8 := [42, 187, 0, 10, 89, 183, 0, 12, 18, 13, 182, 0, 15, 27, 182, 0, 19, 182, 0, 22, 183, 0, 7, 177]
abbrev dktJ23_init_0 : List UInt8 := dkwJ23_init_0 ++ []
theorem dksJ23_init_0 : cJ23_init.data.toList.drop 0 = dktJ23_init_0 := by decide +kernel
theorem dJ23_init_0 : decode cJ23_init 0 = .ok (.aload_n 0, 1) := dk_42 (dk_at dksJ23_init_0 0 rfl rfl)
theorem dJ23_init_1 : decode cJ23_init 1 = .ok (.new 10, 3) := dk_187 0 10 (dk_at dksJ23_init_0 1 rfl rfl)
theorem dJ23_init_4 : decode cJ23_init 4 = .ok (.dup, 1) := dk_89 (dk_at dksJ23_init_0 4 rfl rfl)
theorem dJ23_init_5 : decode cJ23_init 5 = .ok (.invokespecial 12, 3) := dk_183 0 12 (dk_at dksJ23_init_0 5 rfl rfl)
theorem dJ23_init_8 : decode cJ23_init 8 = .ok (.ldc 13, 2) := dk_18 13 (dk_at dksJ23_init_0 8 rfl rfl)
theorem dJ23_init_10 : decode cJ23_init 10 = .ok (.invokevirtual 15, 3) := dk_182 0 15 (dk_at dksJ23_init_0 10 rfl rfl)
theorem dJ23_init_13 : decode cJ23_init 13 = .ok (.iload_n 1, 1) := dk_27 (dk_at dksJ23_init_0 13 rfl rfl)
theorem dJ23_init_14 : decode cJ23_init 14 = .ok (.invokevirtual 19, 3) := dk_182 0 19 (dk_at dksJ23_init_0 14 rfl rfl)
theorem dJ23_init_17 : decode cJ23_init 17 = .ok (.invokevirtual 22, 3) := dk_182 0 22 (dk_at dksJ23_init_0 17 rfl rfl)
theorem dJ23_init_20 : decode cJ23_init 20 = .ok (.invokespecial 7, 3) := dk_183 0 7 (dk_at dksJ23_init_0 20 rfl rfl)
theorem dJ23_init_23 : decode cJ23_init 23 = .ok (.return_, 1) := dk_177 (dk_at dksJ23_init_0 23 rfl rfl)
abbrev cJ23_init_2 : ByteArray := prog_15_method_2_code
def yJ23_init_2 : MethodName := ⟨RJ23, "<init>", "(Ljava/lang/String;)V"⟩
def dkwJ23_init_2_0 : List UInt8 := [42, 43, 183, 0, 7, 177]
abbrev dktJ23_init_2_0 : List UInt8 := dkwJ23_init_2_0 ++ []
theorem dksJ23_init_2_0 : cJ23_init_2.data.toList.drop 0 = dktJ23_init_2_0 := by decide +kernel
theorem dJ23_init_2_0 : decode cJ23_init_2 0 = .ok (.aload_n 0, 1) := dk_42 (dk_at dksJ23_init_2_0 0 rfl rfl)
theorem dJ23_init_2_1 : decode cJ23_init_2 1 = .ok (.aload_n 1, 1) := dk_43 (dk_at dksJ23_init_2_0 1 rfl rfl)
theorem dJ23_init_2_2 : decode cJ23_init_2 2 = .ok (.invokespecial 7, 3) := dk_183 0 7 (dk_at dksJ23_init_2_0 2 rfl rfl)
theorem dJ23_init_2_5 : decode cJ23_init_2 5 = .ok (.return_, 1) := dk_177 (dk_at dksJ23_init_2_0 5 rfl rfl)
theorem q152 : (Jvm.Cond.initialized "java/lang/ArrayIndexOutOfBoundsException") ∈ lw_all := lw_g (lw_at lw_m1 37 rfl) rfl
theorem q413 : (Jvm.Cond.selects "java/lang/ArrayIndexOutOfBoundsException" ({ cls := "java/lang/Throwable", name := "fillInStackTrace", desc := "()Ljava/lang/Throwable;" } : Jvm.MethodName) ({ cls := "java/lang/Throwable", name := "fillInStackTrace", desc := "()Ljava/lang/Throwable;" } : Jvm.MethodName)) ∈ lw_all := lw_g (lw_at lw_m2 58 rfl) rfl
theorem q884 : (Jvm.Cond.selects "java/lang/ArrayIndexOutOfBoundsException" ({ cls := "java/lang/Object", name := "getClass", desc := "()Ljava/lang/Class;" } : Jvm.MethodName) ({ cls := "java/lang/Object", name := "getClass", desc := "()Ljava/lang/Class;" } : Jvm.MethodName)) ∈ lw_all := lw_g (lw_at lw_m4 49 rfl) rfl
theorem q1310 : (Jvm.Cond.instantiable "java/lang/ArrayIndexOutOfBoundsException" (6 : Nat)) ∈ lw_all := lw_g (lw_at lw_m5 235 rfl) rfl
theorem q1311 : (Jvm.Cond.castable "java/lang/ArrayIndexOutOfBoundsException" "java/lang/ArrayIndexOutOfBoundsException") ∈ lw_tbl := lw_at lw_m5 236 rfl
theorem q1314 : (Jvm.Cond.selects "java/lang/ArrayIndexOutOfBoundsException" ({ cls := "java/lang/Throwable", name := "fillInStackTrace", desc := "(I)Ljava/lang/Throwable;" } : Jvm.MethodName) ({ cls := "java/lang/Throwable", name := "fillInStackTrace", desc := "(I)Ljava/lang/Throwable;" } : Jvm.MethodName)) ∈ lw_all := lw_g (lw_at lw_m5 239 rfl) rfl
theorem q1315 : (Jvm.Cond.lays "java/lang/ArrayIndexOutOfBoundsException" "java/lang/Throwable" "cause" "Ljava/lang/Throwable;") ∈ lw_all := lw_g (lw_at lw_m6 0 rfl) rfl
theorem q1316 : (Jvm.Cond.lays "java/lang/ArrayIndexOutOfBoundsException" "java/lang/Throwable" "stackTrace" "[Ljava/lang/StackTraceElement;") ∈ lw_all := lw_g (lw_at lw_m6 1 rfl) rfl
theorem q1317 : (Jvm.Cond.lays "java/lang/ArrayIndexOutOfBoundsException" "java/lang/Throwable" "suppressedExceptions" "Ljava/util/List;") ∈ lw_all := lw_g (lw_at lw_m6 2 rfl) rfl
theorem q1318 : (Jvm.Cond.lays "java/lang/ArrayIndexOutOfBoundsException" "java/lang/Throwable" "detailMessage" "Ljava/lang/String;") ∈ lw_all := lw_g (lw_at lw_m6 3 rfl) rfl
theorem q1319 : (Jvm.Cond.lays "java/lang/ArrayIndexOutOfBoundsException" "java/lang/Throwable" "backtrace" "Ljava/lang/Object;") ∈ lw_all := lw_g (lw_at lw_m6 4 rfl) rfl
theorem q1321 : (Jvm.Cond.instanceMethod ({ cls := "java/lang/ArrayIndexOutOfBoundsException", name := "<init>", desc := "(I)V" } : Jvm.MethodName)) ∈ lw_all := lw_g (lw_at lw_m6 6 rfl) rfl
theorem q1322 : (Jvm.Cond.code ({ cls := "java/lang/ArrayIndexOutOfBoundsException", name := "<init>", desc := "(I)V" } : Jvm.MethodName) prog_15_method_3_code (2 : Nat) (Option.none : Option Jvm.ClassFile.FieldType)) ∈ lw_all := lw_g (lw_at lw_m6 7 rfl) rfl
theorem q1323 : (Jvm.Cond.classLink "java/lang/ArrayIndexOutOfBoundsException" (10 : Nat) "java/lang/StringBuilder") ∈ lw_all := lw_g (lw_at lw_m6 8 rfl) rfl
theorem q1324 : (Jvm.Cond.methodLink "java/lang/ArrayIndexOutOfBoundsException" (12 : Nat) ({ cls := "java/lang/StringBuilder", name := "<init>", desc := "()V" } : Jvm.MethodName)) ∈ lw_all := lw_g (lw_at lw_m6 9 rfl) rfl
theorem q1325 : (Jvm.Cond.stringRef "java/lang/ArrayIndexOutOfBoundsException" (13 : Nat) "Array index out of range: ") ∈ lw_tbl := lw_at lw_m6 10 rfl
theorem q1326 : (Jvm.Cond.methodLink "java/lang/ArrayIndexOutOfBoundsException" (15 : Nat) ({ cls := "java/lang/StringBuilder", name := "append", desc := "(Ljava/lang/String;)Ljava/lang/StringBuilder;" } : Jvm.MethodName)) ∈ lw_all := lw_g (lw_at lw_m6 11 rfl) rfl
theorem q1327 : (Jvm.Cond.methodLink "java/lang/ArrayIndexOutOfBoundsException" (19 : Nat) ({ cls := "java/lang/StringBuilder", name := "append", desc := "(I)Ljava/lang/StringBuilder;" } : Jvm.MethodName)) ∈ lw_all := lw_g (lw_at lw_m6 12 rfl) rfl
theorem q1328 : (Jvm.Cond.methodLink "java/lang/ArrayIndexOutOfBoundsException" (22 : Nat) ({ cls := "java/lang/StringBuilder", name := "toString", desc := "()Ljava/lang/String;" } : Jvm.MethodName)) ∈ lw_all := lw_g (lw_at lw_m6 13 rfl) rfl
theorem q1329 : (Jvm.Cond.methodLink "java/lang/ArrayIndexOutOfBoundsException" (7 : Nat) ({ cls := "java/lang/IndexOutOfBoundsException", name := "<init>", desc := "(Ljava/lang/String;)V" } : Jvm.MethodName)) ∈ lw_all := lw_g (lw_at lw_m6 14 rfl) rfl
theorem q1330 : (Jvm.Cond.lays "java/lang/ArrayIndexOutOfBoundsException" "java/lang/Throwable" "depth" "I") ∈ lw_all := lw_g (lw_at lw_m6 15 rfl) rfl
theorem q1331 : (Jvm.Cond.superclass "java/lang/ArrayIndexOutOfBoundsException" "java/lang/IndexOutOfBoundsException") ∈ lw_all := lw_g (lw_at lw_m6 16 rfl) rfl
theorem q1665 : (Jvm.Cond.instanceMethod ({ cls := "java/lang/ArrayIndexOutOfBoundsException", name := "<init>", desc := "(Ljava/lang/String;)V" } : Jvm.MethodName)) ∈ lw_all := lw_g (lw_at lw_m7 110 rfl) rfl
theorem q1666 : (Jvm.Cond.code ({ cls := "java/lang/ArrayIndexOutOfBoundsException", name := "<init>", desc := "(Ljava/lang/String;)V" } : Jvm.MethodName) prog_15_method_2_code (2 : Nat) (Option.none : Option Jvm.ClassFile.FieldType)) ∈ lw_all := lw_g (lw_at lw_m7 111 rfl) rfl
theorem q2717 : (Jvm.Cond.castable "java/lang/ArrayIndexOutOfBoundsException" "java/lang/IndexOutOfBoundsException") ∈ lw_tbl := lw_at lw_m11 202 rfl
theorem q2737 : (Jvm.Cond.castable "java/lang/ArrayIndexOutOfBoundsException" "java/lang/Object") ∈ lw_tbl := lw_at lw_m11 222 rfl
theorem in_J23 : ∀ w ∈ wsJ230, w ∈ lw_all := lw_in wsJ230 [1315, 1316, 1317, 1318, 1319, 1330] (by decide +kernel) (by decide +kernel)

/-! java/util/NoSuchElementException -/
set_option maxRecDepth 100000
def RJ24 : String := "java/util/NoSuchElementException"
def TJ24 : u_T := fun k => match k with
  | 0 => ("java/lang/Throwable", "cause", "Ljava/lang/Throwable;", false)
  | 1 => ("java/lang/Throwable", "stackTrace", "[Ljava/lang/StackTraceElement;", false)
  | 2 => ("java/lang/Throwable", "suppressedExceptions", "Ljava/util/List;", false)
  | 3 => ("java/lang/Throwable", "detailMessage", "Ljava/lang/String;", false)
  | 4 => ("java/lang/Throwable", "backtrace", "Ljava/lang/Object;", false)
  | _ => ("java/lang/Throwable", "depth", "I", false)
def tyJ24 : Nat → FieldType := fun k => match k with
  | 0 => .object "java/lang/Throwable"
  | 1 => .array (.object "java/lang/StackTraceElement")
  | 2 => .object "java/util/List"
  | 3 => .object "java/lang/String"
  | 4 => .object "java/lang/Object"
  | _ => .int
abbrev wsJ240 : List Cond := u_ws RJ24 TJ24 6
theorem nmJ24 : ∀ a, a < 6 → ∀ b, b < 6 → a ≠ b → (TJ24 a).2.1 ≠ (TJ24 b).2.1 := by decide +kernel
theorem tyJ24_ok : ∀ k, k < 6 → parseFieldDescriptor (TJ24 k).2.2.1 = some (tyJ24 k) := by decide +kernel
abbrev cJ24_init : ByteArray := prog_50_method_1_code
def yJ24_init : MethodName := ⟨RJ24, "<init>", "()V"⟩
theorem dJ24_init_0 : decode cJ24_init 0 = .ok (.aload_n 0, 1) := by decide +kernel
theorem dJ24_init_1 : decode cJ24_init 1 = .ok (.invokespecial 1, 3) := by decide +kernel
theorem dJ24_init_4 : decode cJ24_init 4 = .ok (.return_, 1) := by decide +kernel
theorem q153 : (Jvm.Cond.initialized "java/util/NoSuchElementException") ∈ lw_all := lw_g (lw_at lw_m1 38 rfl) rfl
theorem q417 : (Jvm.Cond.selects "java/util/NoSuchElementException" ({ cls := "java/lang/Throwable", name := "fillInStackTrace", desc := "()Ljava/lang/Throwable;" } : Jvm.MethodName) ({ cls := "java/lang/Throwable", name := "fillInStackTrace", desc := "()Ljava/lang/Throwable;" } : Jvm.MethodName)) ∈ lw_all := lw_g (lw_at lw_m2 62 rfl) rfl
theorem q895 : (Jvm.Cond.selects "java/util/NoSuchElementException" ({ cls := "java/lang/Object", name := "getClass", desc := "()Ljava/lang/Class;" } : Jvm.MethodName) ({ cls := "java/lang/Object", name := "getClass", desc := "()Ljava/lang/Class;" } : Jvm.MethodName)) ∈ lw_all := lw_g (lw_at lw_m4 60 rfl) rfl
theorem q1384 : (Jvm.Cond.instantiable "java/util/NoSuchElementException" (6 : Nat)) ∈ lw_all := lw_g (lw_at lw_m6 69 rfl) rfl
theorem q1385 : (Jvm.Cond.castable "java/util/NoSuchElementException" "java/util/NoSuchElementException") ∈ lw_tbl := lw_at lw_m6 70 rfl
theorem q1386 : (Jvm.Cond.selects "java/util/NoSuchElementException" ({ cls := "java/lang/Throwable", name := "fillInStackTrace", desc := "(I)Ljava/lang/Throwable;" } : Jvm.MethodName) ({ cls := "java/lang/Throwable", name := "fillInStackTrace", desc := "(I)Ljava/lang/Throwable;" } : Jvm.MethodName)) ∈ lw_all := lw_g (lw_at lw_m6 71 rfl) rfl
theorem q1387 : (Jvm.Cond.lays "java/util/NoSuchElementException" "java/lang/Throwable" "cause" "Ljava/lang/Throwable;") ∈ lw_all := lw_g (lw_at lw_m6 72 rfl) rfl
theorem q1388 : (Jvm.Cond.lays "java/util/NoSuchElementException" "java/lang/Throwable" "stackTrace" "[Ljava/lang/StackTraceElement;") ∈ lw_all := lw_g (lw_at lw_m6 73 rfl) rfl
theorem q1389 : (Jvm.Cond.lays "java/util/NoSuchElementException" "java/lang/Throwable" "suppressedExceptions" "Ljava/util/List;") ∈ lw_all := lw_g (lw_at lw_m6 74 rfl) rfl
theorem q1390 : (Jvm.Cond.lays "java/util/NoSuchElementException" "java/lang/Throwable" "detailMessage" "Ljava/lang/String;") ∈ lw_all := lw_g (lw_at lw_m6 75 rfl) rfl
theorem q1391 : (Jvm.Cond.lays "java/util/NoSuchElementException" "java/lang/Throwable" "backtrace" "Ljava/lang/Object;") ∈ lw_all := lw_g (lw_at lw_m6 76 rfl) rfl
theorem q1393 : (Jvm.Cond.instanceMethod ({ cls := "java/util/NoSuchElementException", name := "<init>", desc := "()V" } : Jvm.MethodName)) ∈ lw_all := lw_g (lw_at lw_m6 78 rfl) rfl
theorem q1394 : (Jvm.Cond.code ({ cls := "java/util/NoSuchElementException", name := "<init>", desc := "()V" } : Jvm.MethodName) prog_50_method_1_code (1 : Nat) (Option.none : Option Jvm.ClassFile.FieldType)) ∈ lw_all := lw_g (lw_at lw_m6 79 rfl) rfl
theorem q1395 : (Jvm.Cond.methodLink "java/util/NoSuchElementException" (1 : Nat) ({ cls := "java/lang/RuntimeException", name := "<init>", desc := "()V" } : Jvm.MethodName)) ∈ lw_all := lw_g (lw_at lw_m6 80 rfl) rfl
theorem q1396 : (Jvm.Cond.lays "java/util/NoSuchElementException" "java/lang/Throwable" "depth" "I") ∈ lw_all := lw_g (lw_at lw_m6 81 rfl) rfl
theorem q1397 : (Jvm.Cond.superclass "java/util/NoSuchElementException" "java/lang/RuntimeException") ∈ lw_all := lw_g (lw_at lw_m6 82 rfl) rfl
theorem q2738 : (Jvm.Cond.castable "java/util/NoSuchElementException" "java/lang/Object") ∈ lw_tbl := lw_at lw_m11 223 rfl
theorem in_J24 : ∀ w ∈ wsJ240, w ∈ lw_all := lw_in wsJ240 [1387, 1388, 1389, 1390, 1391, 1396] (by decide +kernel) (by decide +kernel)

/-! java/util/ArrayList$Itr -/
set_option maxRecDepth 100000
def RJ25 : String := "java/util/ArrayList$Itr"
def TJ25 : u_T := fun k => match k with
  | 0 => ("java/util/ArrayList$Itr", "cursor", "I", false)
  | 1 => ("java/util/ArrayList$Itr", "lastRet", "I", false)
  | 2 => ("java/util/ArrayList$Itr", "expectedModCount", "I", false)
  | _ => ("java/util/ArrayList$Itr", "this$0", "Ljava/util/ArrayList;", true)
def tyJ25 : Nat → FieldType := fun k => match k with
  | 0 => .int
  | 1 => .int
  | 2 => .int
  | _ => .object "java/util/ArrayList"
abbrev wsJ250 : List Cond := u_ws RJ25 TJ25 4
theorem nmJ25 : ∀ a, a < 4 → ∀ b, b < 4 → a ≠ b → (TJ25 a).2.1 ≠ (TJ25 b).2.1 := by decide +kernel
theorem tyJ25_ok : ∀ k, k < 4 → parseFieldDescriptor (TJ25 k).2.2.1 = some (tyJ25 k) := by decide +kernel
abbrev cJ25_init : ByteArray := prog_44_method_1_code
def yJ25_init : MethodName := ⟨RJ25, "<init>", "(Ljava/util/ArrayList;)V"⟩
def dkwJ25_init_1 : List UInt8 := [181, 0, 22, 177]
abbrev dktJ25_init_1 : List UInt8 := dkwJ25_init_1 ++ []
def dkwJ25_init_0 : List UInt8 := [42, 43, 181, 0, 1, 42, 183, 0, 7, 42, 2, 181, 0, 13, 42, 42, 180, 0, 1, 180, 0, 17]
abbrev dktJ25_init_0 : List UInt8 := dkwJ25_init_0 ++ dktJ25_init_1
theorem dksJ25_init_0 : cJ25_init.data.toList.drop 0 = dktJ25_init_0 := by decide +kernel
theorem dksJ25_init_1 : cJ25_init.data.toList.drop 22 = dktJ25_init_1 := dk_seg dksJ25_init_0 22 rfl rfl
theorem dJ25_init_0 : decode cJ25_init 0 = .ok (.aload_n 0, 1) := dk_42 (dk_at dksJ25_init_0 0 rfl rfl)
theorem dJ25_init_1 : decode cJ25_init 1 = .ok (.aload_n 1, 1) := dk_43 (dk_at dksJ25_init_0 1 rfl rfl)
theorem dJ25_init_2 : decode cJ25_init 2 = .ok (.putfield 1, 3) := dk_181 0 1 (dk_at dksJ25_init_0 2 rfl rfl)
theorem dJ25_init_5 : decode cJ25_init 5 = .ok (.aload_n 0, 1) := dk_42 (dk_at dksJ25_init_0 5 rfl rfl)
theorem dJ25_init_6 : decode cJ25_init 6 = .ok (.invokespecial 7, 3) := dk_183 0 7 (dk_at dksJ25_init_0 6 rfl rfl)
theorem dJ25_init_9 : decode cJ25_init 9 = .ok (.aload_n 0, 1) := dk_42 (dk_at dksJ25_init_0 9 rfl rfl)
theorem dJ25_init_10 : decode cJ25_init 10 = .ok (.iconst (-1), 1) := dk_2 (dk_at dksJ25_init_0 10 rfl rfl)
theorem dJ25_init_11 : decode cJ25_init 11 = .ok (.putfield 13, 3) := dk_181 0 13 (dk_at dksJ25_init_0 11 rfl rfl)
theorem dJ25_init_14 : decode cJ25_init 14 = .ok (.aload_n 0, 1) := dk_42 (dk_at dksJ25_init_0 14 rfl rfl)
theorem dJ25_init_15 : decode cJ25_init 15 = .ok (.aload_n 0, 1) := dk_42 (dk_at dksJ25_init_0 15 rfl rfl)
theorem dJ25_init_16 : decode cJ25_init 16 = .ok (.getfield 1, 3) := dk_180 0 1 (dk_at dksJ25_init_0 16 rfl rfl)
theorem dJ25_init_19 : decode cJ25_init 19 = .ok (.getfield 17, 3) := dk_180 0 17 (dk_at dksJ25_init_0 19 rfl rfl)
theorem dJ25_init_22 : decode cJ25_init 22 = .ok (.putfield 22, 3) := dk_181 0 22 (dk_at dksJ25_init_1 0 rfl rfl)
theorem dJ25_init_25 : decode cJ25_init 25 = .ok (.return_, 1) := dk_177 (dk_at dksJ25_init_1 3 rfl rfl)
abbrev cJ25_hasNext : ByteArray := prog_44_method_2_code
def yJ25_hasNext : MethodName := ⟨RJ25, "hasNext", "()Z"⟩
def dkwJ25_hasNext_0 : List UInt8 := [42, 180, 0, 25, 42, 180, 0, 1, 180, 0, 28, 159, 0, 7, 4, 167, 0, 4, 3, 172]
abbrev dktJ25_hasNext_0 : List UInt8 := dkwJ25_hasNext_0 ++ []
theorem dksJ25_hasNext_0 : cJ25_hasNext.data.toList.drop 0 = dktJ25_hasNext_0 := by decide +kernel
theorem dJ25_hasNext_0 : decode cJ25_hasNext 0 = .ok (.aload_n 0, 1) := dk_42 (dk_at dksJ25_hasNext_0 0 rfl rfl)
theorem dJ25_hasNext_1 : decode cJ25_hasNext 1 = .ok (.getfield 25, 3) := dk_180 0 25 (dk_at dksJ25_hasNext_0 1 rfl rfl)
theorem dJ25_hasNext_4 : decode cJ25_hasNext 4 = .ok (.aload_n 0, 1) := dk_42 (dk_at dksJ25_hasNext_0 4 rfl rfl)
theorem dJ25_hasNext_5 : decode cJ25_hasNext 5 = .ok (.getfield 1, 3) := dk_180 0 1 (dk_at dksJ25_hasNext_0 5 rfl rfl)
theorem dJ25_hasNext_8 : decode cJ25_hasNext 8 = .ok (.getfield 28, 3) := dk_180 0 28 (dk_at dksJ25_hasNext_0 8 rfl rfl)
theorem dJ25_hasNext_11 : decode cJ25_hasNext 11 = .ok (.if_icmp .eq 7, 3) := dk_159 0 7 (dk_at dksJ25_hasNext_0 11 rfl rfl)
theorem dJ25_hasNext_14 : decode cJ25_hasNext 14 = .ok (.iconst 1, 1) := dk_4 (dk_at dksJ25_hasNext_0 14 rfl rfl)
theorem dJ25_hasNext_15 : decode cJ25_hasNext 15 = .ok (.goto 4, 3) := dk_167 0 4 (dk_at dksJ25_hasNext_0 15 rfl rfl)
theorem dJ25_hasNext_18 : decode cJ25_hasNext 18 = .ok (.iconst 0, 1) := dk_3 (dk_at dksJ25_hasNext_0 18 rfl rfl)
theorem dJ25_hasNext_19 : decode cJ25_hasNext 19 = .ok (.ireturn, 1) := dk_172 (dk_at dksJ25_hasNext_0 19 rfl rfl)
abbrev cJ25_next : ByteArray := prog_44_method_3_code
def yJ25_next : MethodName := ⟨RJ25, "next", "()Ljava/lang/Object;"⟩
def dkwJ25_next_2 : List UInt8 := [183, 0, 43, 191, 42, 27, 4, 96, 181, 0, 25, 44, 42, 27, 90, 181, 0, 13, 50, 176]
abbrev dktJ25_next_2 : List UInt8 := dkwJ25_next_2 ++ []
def dkwJ25_next_1 : List UInt8 := [183, 0, 36, 191, 42, 180, 0, 1, 180, 0, 37, 77, 27, 44, 190, 161, 0, 11, 187, 0, 41, 89]
abbrev dktJ25_next_1 : List UInt8 := dkwJ25_next_1 ++ dktJ25_next_2
def dkwJ25_next_0 : List UInt8 := [42, 182, 0, 31, 42, 180, 0, 25, 60, 27, 42, 180, 0, 1, 180, 0, 28, 161, 0, 11, 187, 0, 34, 89]
abbrev dktJ25_next_0 : List UInt8 := dkwJ25_next_0 ++ dktJ25_next_1
theorem dksJ25_next_0 : cJ25_next.data.toList.drop 0 = dktJ25_next_0 := by decide +kernel
theorem dksJ25_next_1 : cJ25_next.data.toList.drop 24 = dktJ25_next_1 := dk_seg dksJ25_next_0 24 rfl rfl
theorem dksJ25_next_2 : cJ25_next.data.toList.drop 46 = dktJ25_next_2 := dk_seg dksJ25_next_1 22 rfl rfl
theorem dJ25_next_0 : decode cJ25_next 0 = .ok (.aload_n 0, 1) := dk_42 (dk_at dksJ25_next_0 0 rfl rfl)
theorem dJ25_next_1 : decode cJ25_next 1 = .ok (.invokevirtual 31, 3) := dk_182 0 31 (dk_at dksJ25_next_0 1 rfl rfl)
theorem dJ25_next_4 : decode cJ25_next 4 = .ok (.aload_n 0, 1) := dk_42 (dk_at dksJ25_next_0 4 rfl rfl)
theorem dJ25_next_5 : decode cJ25_next 5 = .ok (.getfield 25, 3) := dk_180 0 25 (dk_at dksJ25_next_0 5 rfl rfl)
theorem dJ25_next_8 : decode cJ25_next 8 = .ok (.istore_n 1, 1) := dk_60 (dk_at dksJ25_next_0 8 rfl rfl)
theorem dJ25_next_9 : decode cJ25_next 9 = .ok (.iload_n 1, 1) := dk_27 (dk_at dksJ25_next_0 9 rfl rfl)
theorem dJ25_next_10 : decode cJ25_next 10 = .ok (.aload_n 0, 1) := dk_42 (dk_at dksJ25_next_0 10 rfl rfl)
theorem dJ25_next_11 : decode cJ25_next 11 = .ok (.getfield 1, 3) := dk_180 0 1 (dk_at dksJ25_next_0 11 rfl rfl)
theorem dJ25_next_14 : decode cJ25_next 14 = .ok (.getfield 28, 3) := dk_180 0 28 (dk_at dksJ25_next_0 14 rfl rfl)
theorem dJ25_next_17 : decode cJ25_next 17 = .ok (.if_icmp .lt 11, 3) := dk_161 0 11 (dk_at dksJ25_next_0 17 rfl rfl)
theorem dJ25_next_20 : decode cJ25_next 20 = .ok (.new 34, 3) := dk_187 0 34 (dk_at dksJ25_next_0 20 rfl rfl)
theorem dJ25_next_23 : decode cJ25_next 23 = .ok (.dup, 1) := dk_89 (dk_at dksJ25_next_0 23 rfl rfl)
theorem dJ25_next_24 : decode cJ25_next 24 = .ok (.invokespecial 36, 3) := dk_183 0 36 (dk_at dksJ25_next_1 0 rfl rfl)
theorem dJ25_next_27 : decode cJ25_next 27 = .ok (.athrow, 1) := dk_191 (dk_at dksJ25_next_1 3 rfl rfl)
theorem dJ25_next_28 : decode cJ25_next 28 = .ok (.aload_n 0, 1) := dk_42 (dk_at dksJ25_next_1 4 rfl rfl)
theorem dJ25_next_29 : decode cJ25_next 29 = .ok (.getfield 1, 3) := dk_180 0 1 (dk_at dksJ25_next_1 5 rfl rfl)
theorem dJ25_next_32 : decode cJ25_next 32 = .ok (.getfield 37, 3) := dk_180 0 37 (dk_at dksJ25_next_1 8 rfl rfl)
theorem dJ25_next_35 : decode cJ25_next 35 = .ok (.astore_n 2, 1) := dk_77 (dk_at dksJ25_next_1 11 rfl rfl)
theorem dJ25_next_36 : decode cJ25_next 36 = .ok (.iload_n 1, 1) := dk_27 (dk_at dksJ25_next_1 12 rfl rfl)
theorem dJ25_next_37 : decode cJ25_next 37 = .ok (.aload_n 2, 1) := dk_44 (dk_at dksJ25_next_1 13 rfl rfl)
theorem dJ25_next_38 : decode cJ25_next 38 = .ok (.arraylength, 1) := dk_190 (dk_at dksJ25_next_1 14 rfl rfl)
theorem dJ25_next_39 : decode cJ25_next 39 = .ok (.if_icmp .lt 11, 3) := dk_161 0 11 (dk_at dksJ25_next_1 15 rfl rfl)
theorem dJ25_next_42 : decode cJ25_next 42 = .ok (.new 41, 3) := dk_187 0 41 (dk_at dksJ25_next_1 18 rfl rfl)
theorem dJ25_next_45 : decode cJ25_next 45 = .ok (.dup, 1) := dk_89 (dk_at dksJ25_next_1 21 rfl rfl)
theorem dJ25_next_46 : decode cJ25_next 46 = .ok (.invokespecial 43, 3) := dk_183 0 43 (dk_at dksJ25_next_2 0 rfl rfl)
theorem dJ25_next_49 : decode cJ25_next 49 = .ok (.athrow, 1) := dk_191 (dk_at dksJ25_next_2 3 rfl rfl)
theorem dJ25_next_50 : decode cJ25_next 50 = .ok (.aload_n 0, 1) := dk_42 (dk_at dksJ25_next_2 4 rfl rfl)
theorem dJ25_next_51 : decode cJ25_next 51 = .ok (.iload_n 1, 1) := dk_27 (dk_at dksJ25_next_2 5 rfl rfl)
theorem dJ25_next_52 : decode cJ25_next 52 = .ok (.iconst 1, 1) := dk_4 (dk_at dksJ25_next_2 6 rfl rfl)
theorem dJ25_next_53 : decode cJ25_next 53 = .ok (.iadd, 1) := dk_96 (dk_at dksJ25_next_2 7 rfl rfl)
theorem dJ25_next_54 : decode cJ25_next 54 = .ok (.putfield 25, 3) := dk_181 0 25 (dk_at dksJ25_next_2 8 rfl rfl)
theorem dJ25_next_57 : decode cJ25_next 57 = .ok (.aload_n 2, 1) := dk_44 (dk_at dksJ25_next_2 11 rfl rfl)
theorem dJ25_next_58 : decode cJ25_next 58 = .ok (.aload_n 0, 1) := dk_42 (dk_at dksJ25_next_2 12 rfl rfl)
theorem dJ25_next_59 : decode cJ25_next 59 = .ok (.iload_n 1, 1) := dk_27 (dk_at dksJ25_next_2 13 rfl rfl)
theorem dJ25_next_60 : decode cJ25_next 60 = .ok (.dup_x1, 1) := dk_90 (dk_at dksJ25_next_2 14 rfl rfl)
theorem dJ25_next_61 : decode cJ25_next 61 = .ok (.putfield 13, 3) := dk_181 0 13 (dk_at dksJ25_next_2 15 rfl rfl)
theorem dJ25_next_64 : decode cJ25_next 64 = .ok (.aaload, 1) := dk_50 (dk_at dksJ25_next_2 18 rfl rfl)
theorem dJ25_next_65 : decode cJ25_next 65 = .ok (.areturn, 1) := dk_176 (dk_at dksJ25_next_2 19 rfl rfl)
abbrev cJ25_checkForComodification : ByteArray := prog_44_method_6_code
def yJ25_checkForComodification : MethodName := ⟨RJ25, "checkForComodification", "()V"⟩
def dkwJ25_checkForComodification_0 : List UInt8 := [42, 180, 0, 1, 180, 0, 17, 42, 180, 0, 22, 159, 0, 11, 187, 0, 41, 89, 183, 0, 43, 191, 177]
abbrev dktJ25_checkForComodification_0 : List UInt8 := dkwJ25_checkForComodification_0 ++ []
theorem dksJ25_checkForComodification_0 : cJ25_checkForComodification.data.toList.drop 0 = dktJ25_checkForComodification_0 := by decide +kernel
theorem dJ25_checkForComodification_0 : decode cJ25_checkForComodification 0 = .ok (.aload_n 0, 1) := dk_42 (dk_at dksJ25_checkForComodification_0 0 rfl rfl)
theorem dJ25_checkForComodification_1 : decode cJ25_checkForComodification 1 = .ok (.getfield 1, 3) := dk_180 0 1 (dk_at dksJ25_checkForComodification_0 1 rfl rfl)
theorem dJ25_checkForComodification_4 : decode cJ25_checkForComodification 4 = .ok (.getfield 17, 3) := dk_180 0 17 (dk_at dksJ25_checkForComodification_0 4 rfl rfl)
theorem dJ25_checkForComodification_7 : decode cJ25_checkForComodification 7 = .ok (.aload_n 0, 1) := dk_42 (dk_at dksJ25_checkForComodification_0 7 rfl rfl)
theorem dJ25_checkForComodification_8 : decode cJ25_checkForComodification 8 = .ok (.getfield 22, 3) := dk_180 0 22 (dk_at dksJ25_checkForComodification_0 8 rfl rfl)
theorem dJ25_checkForComodification_11 : decode cJ25_checkForComodification 11 = .ok (.if_icmp .eq 11, 3) := dk_159 0 11 (dk_at dksJ25_checkForComodification_0 11 rfl rfl)
theorem dJ25_checkForComodification_14 : decode cJ25_checkForComodification 14 = .ok (.new 41, 3) := dk_187 0 41 (dk_at dksJ25_checkForComodification_0 14 rfl rfl)
theorem dJ25_checkForComodification_17 : decode cJ25_checkForComodification 17 = .ok (.dup, 1) := dk_89 (dk_at dksJ25_checkForComodification_0 17 rfl rfl)
theorem dJ25_checkForComodification_18 : decode cJ25_checkForComodification 18 = .ok (.invokespecial 43, 3) := dk_183 0 43 (dk_at dksJ25_checkForComodification_0 18 rfl rfl)
theorem dJ25_checkForComodification_21 : decode cJ25_checkForComodification 21 = .ok (.athrow, 1) := dk_191 (dk_at dksJ25_checkForComodification_0 21 rfl rfl)
theorem dJ25_checkForComodification_22 : decode cJ25_checkForComodification 22 = .ok (.return_, 1) := dk_177 (dk_at dksJ25_checkForComodification_0 22 rfl rfl)
theorem q154 : (Jvm.Cond.initialized "java/util/ArrayList$Itr") ∈ lw_all := lw_g (lw_at lw_m1 39 rfl) rfl
theorem q247 : (Jvm.Cond.fieldLink "java/util/ArrayList$Itr" (37 : Nat) "java/util/ArrayList" "elementData" "[Ljava/lang/Object;") ∈ lw_all := lw_g (lw_at lw_m1 132 rfl) rfl
theorem q248 : (Jvm.Cond.fieldLinkNest "java/util/ArrayList$Itr" (28 : Nat) "java/util/ArrayList" "size" "I" "java/util/ArrayList") ∈ lw_tbl := lw_at lw_m1 133 rfl
theorem q251 : (Jvm.Cond.fieldLink "java/util/ArrayList$Itr" (17 : Nat) "java/util/ArrayList" "modCount" "I") ∈ lw_all := lw_g (lw_at lw_m1 136 rfl) rfl
theorem q894 : (Jvm.Cond.selects "java/util/ArrayList$Itr" ({ cls := "java/lang/Object", name := "getClass", desc := "()Ljava/lang/Class;" } : Jvm.MethodName) ({ cls := "java/lang/Object", name := "getClass", desc := "()Ljava/lang/Class;" } : Jvm.MethodName)) ∈ lw_all := lw_g (lw_at lw_m4 59 rfl) rfl
theorem q1414 : (Jvm.Cond.instantiable "java/util/ArrayList$Itr" (4 : Nat)) ∈ lw_all := lw_g (lw_at lw_m6 99 rfl) rfl
theorem q1416 : (Jvm.Cond.instanceMethod ({ cls := "java/util/ArrayList$Itr", name := "<init>", desc := "(Ljava/util/ArrayList;)V" } : Jvm.MethodName)) ∈ lw_all := lw_g (lw_at lw_m6 101 rfl) rfl
theorem q1417 : (Jvm.Cond.code ({ cls := "java/util/ArrayList$Itr", name := "<init>", desc := "(Ljava/util/ArrayList;)V" } : Jvm.MethodName) prog_44_method_1_code (2 : Nat) (Option.none : Option Jvm.ClassFile.FieldType)) ∈ lw_all := lw_g (lw_at lw_m6 102 rfl) rfl
theorem q1418 : (Jvm.Cond.methodLink "java/util/ArrayList$Itr" (7 : Nat) ({ cls := "java/lang/Object", name := "<init>", desc := "()V" } : Jvm.MethodName)) ∈ lw_all := lw_g (lw_at lw_m6 103 rfl) rfl
theorem q1419 : (Jvm.Cond.fieldLink "java/util/ArrayList$Itr" (25 : Nat) "java/util/ArrayList$Itr" "cursor" "I") ∈ lw_all := lw_g (lw_at lw_m6 104 rfl) rfl
theorem q1420 : (Jvm.Cond.fieldLink "java/util/ArrayList$Itr" (13 : Nat) "java/util/ArrayList$Itr" "lastRet" "I") ∈ lw_all := lw_g (lw_at lw_m6 105 rfl) rfl
theorem q1421 : (Jvm.Cond.fieldLink "java/util/ArrayList$Itr" (22 : Nat) "java/util/ArrayList$Itr" "expectedModCount" "I") ∈ lw_all := lw_g (lw_at lw_m6 106 rfl) rfl
theorem q1422 : (Jvm.Cond.fieldLink "java/util/ArrayList$Itr" (1 : Nat) "java/util/ArrayList$Itr" "this$0" "Ljava/util/ArrayList;") ∈ lw_all := lw_g (lw_at lw_m6 107 rfl) rfl
theorem q1423 : (Jvm.Cond.lays "java/util/ArrayList$Itr" "java/util/ArrayList$Itr" "cursor" "I") ∈ lw_all := lw_g (lw_at lw_m6 108 rfl) rfl
theorem q1424 : (Jvm.Cond.soleField "java/util/ArrayList$Itr" "cursor") ∈ lw_all := lw_g (lw_at lw_m6 109 rfl) rfl
theorem q1425 : (Jvm.Cond.lays "java/util/ArrayList$Itr" "java/util/ArrayList$Itr" "lastRet" "I") ∈ lw_all := lw_g (lw_at lw_m6 110 rfl) rfl
theorem q1426 : (Jvm.Cond.soleField "java/util/ArrayList$Itr" "lastRet") ∈ lw_all := lw_g (lw_at lw_m6 111 rfl) rfl
theorem q1427 : (Jvm.Cond.lays "java/util/ArrayList$Itr" "java/util/ArrayList$Itr" "expectedModCount" "I") ∈ lw_all := lw_g (lw_at lw_m6 112 rfl) rfl
theorem q1428 : (Jvm.Cond.soleField "java/util/ArrayList$Itr" "expectedModCount") ∈ lw_all := lw_g (lw_at lw_m6 113 rfl) rfl
theorem q1429 : (Jvm.Cond.laysFinal "java/util/ArrayList$Itr" "java/util/ArrayList$Itr" "this$0" "Ljava/util/ArrayList;") ∈ lw_all := lw_g (lw_at lw_m6 114 rfl) rfl
theorem q1430 : (Jvm.Cond.soleField "java/util/ArrayList$Itr" "this$0") ∈ lw_all := lw_g (lw_at lw_m6 115 rfl) rfl
theorem q1431 : (Jvm.Cond.superclass "java/util/ArrayList$Itr" "java/lang/Object") ∈ lw_all := lw_g (lw_at lw_m6 116 rfl) rfl
theorem q1436 : (Jvm.Cond.castable "java/util/ArrayList$Itr" "java/util/Iterator") ∈ lw_tbl := lw_at lw_m6 121 rfl
theorem q1437 : (Jvm.Cond.selects "java/util/ArrayList$Itr" ({ cls := "java/util/Iterator", name := "hasNext", desc := "()Z" } : Jvm.MethodName) ({ cls := "java/util/ArrayList$Itr", name := "hasNext", desc := "()Z" } : Jvm.MethodName)) ∈ lw_all := lw_g (lw_at lw_m6 122 rfl) rfl
theorem q1438 : (Jvm.Cond.unhidden "java/util/ArrayList$Itr" "hasNext" "()Z") ∈ lw_tbl := lw_at lw_m6 123 rfl
theorem q1439 : (Jvm.Cond.instanceMethod ({ cls := "java/util/ArrayList$Itr", name := "hasNext", desc := "()Z" } : Jvm.MethodName)) ∈ lw_all := lw_g (lw_at lw_m6 124 rfl) rfl
theorem q1440 : (Jvm.Cond.publicMethod ({ cls := "java/util/ArrayList$Itr", name := "hasNext", desc := "()Z" } : Jvm.MethodName)) ∈ lw_tbl := lw_at lw_m6 125 rfl
theorem q1441 : (Jvm.Cond.code ({ cls := "java/util/ArrayList$Itr", name := "hasNext", desc := "()Z" } : Jvm.MethodName) prog_44_method_2_code (1 : Nat) (Option.some Jvm.ClassFile.FieldType.boolean)) ∈ lw_all := lw_g (lw_at lw_m6 126 rfl) rfl
theorem q1446 : (Jvm.Cond.selects "java/util/ArrayList$Itr" ({ cls := "java/util/Iterator", name := "next", desc := "()Ljava/lang/Object;" } : Jvm.MethodName) ({ cls := "java/util/ArrayList$Itr", name := "next", desc := "()Ljava/lang/Object;" } : Jvm.MethodName)) ∈ lw_all := lw_g (lw_at lw_m6 131 rfl) rfl
theorem q1447 : (Jvm.Cond.unhidden "java/util/ArrayList$Itr" "next" "()Ljava/lang/Object;") ∈ lw_tbl := lw_at lw_m6 132 rfl
theorem q1448 : (Jvm.Cond.instanceMethod ({ cls := "java/util/ArrayList$Itr", name := "next", desc := "()Ljava/lang/Object;" } : Jvm.MethodName)) ∈ lw_all := lw_g (lw_at lw_m6 133 rfl) rfl
theorem q1449 : (Jvm.Cond.publicMethod ({ cls := "java/util/ArrayList$Itr", name := "next", desc := "()Ljava/lang/Object;" } : Jvm.MethodName)) ∈ lw_tbl := lw_at lw_m6 134 rfl
theorem q1450 : (Jvm.Cond.code ({ cls := "java/util/ArrayList$Itr", name := "next", desc := "()Ljava/lang/Object;" } : Jvm.MethodName) prog_44_method_3_code (3 : Nat) (Option.some (Jvm.ClassFile.FieldType.object "java/lang/Object"))) ∈ lw_all := lw_g (lw_at lw_m6 135 rfl) rfl
theorem q1451 : (Jvm.Cond.methodLink "java/util/ArrayList$Itr" (31 : Nat) ({ cls := "java/util/ArrayList$Itr", name := "checkForComodification", desc := "()V" } : Jvm.MethodName)) ∈ lw_all := lw_g (lw_at lw_m6 136 rfl) rfl
theorem q1452 : (Jvm.Cond.instanceMethod ({ cls := "java/util/ArrayList$Itr", name := "checkForComodification", desc := "()V" } : Jvm.MethodName)) ∈ lw_all := lw_g (lw_at lw_m6 137 rfl) rfl
theorem q1453 : (Jvm.Cond.selects "java/util/ArrayList$Itr" ({ cls := "java/util/ArrayList$Itr", name := "checkForComodification", desc := "()V" } : Jvm.MethodName) ({ cls := "java/util/ArrayList$Itr", name := "checkForComodification", desc := "()V" } : Jvm.MethodName)) ∈ lw_all := lw_g (lw_at lw_m6 138 rfl) rfl
theorem q1454 : (Jvm.Cond.code ({ cls := "java/util/ArrayList$Itr", name := "checkForComodification", desc := "()V" } : Jvm.MethodName) prog_44_method_6_code (1 : Nat) (Option.none : Option Jvm.ClassFile.FieldType)) ∈ lw_all := lw_g (lw_at lw_m6 139 rfl) rfl
theorem q1455 : (Jvm.Cond.classLink "java/util/ArrayList$Itr" (34 : Nat) "java/util/NoSuchElementException") ∈ lw_all := lw_g (lw_at lw_m6 140 rfl) rfl
theorem q1456 : (Jvm.Cond.methodLink "java/util/ArrayList$Itr" (36 : Nat) ({ cls := "java/util/NoSuchElementException", name := "<init>", desc := "()V" } : Jvm.MethodName)) ∈ lw_all := lw_g (lw_at lw_m6 141 rfl) rfl
theorem q2739 : (Jvm.Cond.castable "java/util/ArrayList$Itr" "java/lang/Object") ∈ lw_tbl := lw_at lw_m11 224 rfl
theorem in_J25 : ∀ w ∈ wsJ250, w ∈ lw_all := lw_in wsJ250 [1423, 1425, 1427, 1429] (by decide +kernel) (by decide +kernel)

/-! java/lang/Object -/
set_option maxRecDepth 100000
def RJ26 : String := "java/lang/Object"
abbrev cJ26_init : ByteArray := object_method_1_code
def yJ26_init : MethodName := ⟨RJ26, "<init>", "()V"⟩
theorem dJ26_init_0 : decode cJ26_init 0 = .ok (.return_, 1) := by decide +kernel
theorem q162 : (Jvm.Cond.instanceMethod ({ cls := "java/lang/Object", name := "<init>", desc := "()V" } : Jvm.MethodName)) ∈ lw_all := lw_g (lw_at lw_m1 47 rfl) rfl
theorem q163 : (Jvm.Cond.code ({ cls := "java/lang/Object", name := "<init>", desc := "()V" } : Jvm.MethodName) object_method_1_code (1 : Nat) (Option.none : Option Jvm.ClassFile.FieldType)) ∈ lw_all := lw_g (lw_at lw_m1 48 rfl) rfl
theorem q460 : (Jvm.Cond.native ({ cls := "java/lang/Object", name := "clone", desc := "()Ljava/lang/Object;" } : Jvm.MethodName)) ∈ lw_all := lw_g (lw_at lw_m2 105 rfl) rfl
theorem q461 : (Jvm.Cond.instanceMethod ({ cls := "java/lang/Object", name := "clone", desc := "()Ljava/lang/Object;" } : Jvm.MethodName)) ∈ lw_all := lw_g (lw_at lw_m2 106 rfl) rfl
theorem q872 : (Jvm.Cond.instanceMethod ({ cls := "java/lang/Object", name := "getClass", desc := "()Ljava/lang/Class;" } : Jvm.MethodName)) ∈ lw_all := lw_g (lw_at lw_m4 37 rfl) rfl
theorem q873 : (Jvm.Cond.sameMethod "java/lang/Object" "java/lang/Object" "getClass" "()Ljava/lang/Class;") ∈ lw_all := lw_g (lw_at lw_m4 38 rfl) rfl
theorem q896 : (Jvm.Cond.native ({ cls := "java/lang/Object", name := "getClass", desc := "()Ljava/lang/Class;" } : Jvm.MethodName)) ∈ lw_all := lw_g (lw_at lw_m4 61 rfl) rfl
theorem q2716 : (Jvm.Cond.initialized "java/lang/Object") ∈ lw_all := lw_g (lw_at lw_m11 201 rfl) rfl
theorem q2744 : (Jvm.Cond.declares ({ cls := "java/lang/Object", name := "getClass", desc := "()Ljava/lang/Class;" } : Jvm.MethodName)) ∈ lw_tbl := lw_at lw_m11 229 rfl

/-! java/lang/System$2 -/
set_option maxRecDepth 100000
def RJ27 : String := "java/lang/System$2"
abbrev cJ27_getUTF16Char : ByteArray := prog_36_method_45_code
def yJ27_getUTF16Char : MethodName := ⟨RJ27, "getUTF16Char", "([BI)C"⟩
def dkwJ27_getUTF16Char_0 : List UInt8 := [43, 28, 184, 0, 185, 172]
abbrev dktJ27_getUTF16Char_0 : List UInt8 := dkwJ27_getUTF16Char_0 ++ []
theorem dksJ27_getUTF16Char_0 : cJ27_getUTF16Char.data.toList.drop 0 = dktJ27_getUTF16Char_0 := by decide +kernel
theorem dJ27_getUTF16Char_0 : decode cJ27_getUTF16Char 0 = .ok (.aload_n 1, 1) := dk_43 (dk_at dksJ27_getUTF16Char_0 0 rfl rfl)
theorem dJ27_getUTF16Char_1 : decode cJ27_getUTF16Char 1 = .ok (.iload_n 2, 1) := dk_28 (dk_at dksJ27_getUTF16Char_0 1 rfl rfl)
theorem dJ27_getUTF16Char_2 : decode cJ27_getUTF16Char 2 = .ok (.invokestatic 185, 3) := dk_184 0 185 (dk_at dksJ27_getUTF16Char_0 2 rfl rfl)
theorem dJ27_getUTF16Char_5 : decode cJ27_getUTF16Char 5 = .ok (.ireturn, 1) := dk_172 (dk_at dksJ27_getUTF16Char_0 5 rfl rfl)
theorem q768 : (Jvm.Cond.castable "java/lang/System$2" "jdk/internal/access/JavaLangAccess") ∈ lw_tbl := lw_at lw_m3 173 rfl
theorem q769 : (Jvm.Cond.selects "java/lang/System$2" ({ cls := "jdk/internal/access/JavaLangAccess", name := "getUTF16Char", desc := "([BI)C" } : Jvm.MethodName) ({ cls := "java/lang/System$2", name := "getUTF16Char", desc := "([BI)C" } : Jvm.MethodName)) ∈ lw_all := lw_g (lw_at lw_m3 174 rfl) rfl
theorem q770 : (Jvm.Cond.unhidden "java/lang/System$2" "getUTF16Char" "([BI)C") ∈ lw_tbl := lw_at lw_m3 175 rfl
theorem q771 : (Jvm.Cond.instanceMethod ({ cls := "java/lang/System$2", name := "getUTF16Char", desc := "([BI)C" } : Jvm.MethodName)) ∈ lw_all := lw_g (lw_at lw_m3 176 rfl) rfl
theorem q772 : (Jvm.Cond.publicMethod ({ cls := "java/lang/System$2", name := "getUTF16Char", desc := "([BI)C" } : Jvm.MethodName)) ∈ lw_tbl := lw_at lw_m3 177 rfl
theorem q773 : (Jvm.Cond.code ({ cls := "java/lang/System$2", name := "getUTF16Char", desc := "([BI)C" } : Jvm.MethodName) prog_36_method_45_code (3 : Nat) (Option.some Jvm.ClassFile.FieldType.char)) ∈ lw_all := lw_g (lw_at lw_m3 178 rfl) rfl
theorem q774 : (Jvm.Cond.methodLink "java/lang/System$2" (185 : Nat) ({ cls := "java/lang/StringUTF16", name := "getChar", desc := "([BI)C" } : Jvm.MethodName)) ∈ lw_all := lw_g (lw_at lw_m3 179 rfl) rfl
theorem q891 : (Jvm.Cond.selects "java/lang/System$2" ({ cls := "java/lang/Object", name := "getClass", desc := "()Ljava/lang/Class;" } : Jvm.MethodName) ({ cls := "java/lang/Object", name := "getClass", desc := "()Ljava/lang/Class;" } : Jvm.MethodName)) ∈ lw_all := lw_g (lw_at lw_m4 56 rfl) rfl
theorem q2729 : (Jvm.Cond.castable "java/lang/System$2" "java/lang/Object") ∈ lw_tbl := lw_at lw_m11 214 rfl

theorem q125 : (Jvm.Cond.initialized "RooftopCats$Token") ∈ lw_all := lw_g (lw_at lw_m1 10 rfl) rfl
set_option maxRecDepth 100000
theorem q227 : (Jvm.Cond.laysStatic "RooftopCats$Token" "END" "LRooftopCats$Token;") ∈ lw_tbl := lw_at lw_m1 112 rfl
theorem q636 : (Jvm.Cond.laysStatic "RooftopCats$Token" "WORD" "LRooftopCats$Token;") ∈ lw_tbl := lw_at lw_m3 41 rfl
theorem q642 : (Jvm.Cond.laysStatic "RooftopCats$Token" "INVALID" "LRooftopCats$Token;") ∈ lw_tbl := lw_at lw_m3 47 rfl
theorem q644 : (Jvm.Cond.laysStatic "RooftopCats$Token" "NUMBER" "LRooftopCats$Token;") ∈ lw_tbl := lw_at lw_m3 49 rfl
theorem q649 : (Jvm.Cond.laysStatic "RooftopCats$Token" "SEMICOLON" "LRooftopCats$Token;") ∈ lw_tbl := lw_at lw_m3 54 rfl
theorem q651 : (Jvm.Cond.laysStatic "RooftopCats$Token" "OPENING" "LRooftopCats$Token;") ∈ lw_tbl := lw_at lw_m3 56 rfl
theorem q653 : (Jvm.Cond.laysStatic "RooftopCats$Token" "CLOSING" "LRooftopCats$Token;") ∈ lw_tbl := lw_at lw_m3 58 rfl
theorem q882 : (Jvm.Cond.selects "RooftopCats$Token" ({ cls := "java/lang/Object", name := "getClass", desc := "()Ljava/lang/Class;" } : Jvm.MethodName) ({ cls := "java/lang/Object", name := "getClass", desc := "()Ljava/lang/Class;" } : Jvm.MethodName)) ∈ lw_all := lw_g (lw_at lw_m4 47 rfl) rfl
theorem q2723 : (Jvm.Cond.castable "RooftopCats$Token" "java/lang/Object") ∈ lw_tbl := lw_at lw_m11 208 rfl

theorem q459 : (Jvm.Cond.sameMethod "[B" "java/lang/Object" "clone" "()Ljava/lang/Object;") ∈ lw_all := lw_g (lw_at lw_m2 104 rfl) rfl
set_option maxRecDepth 100000
theorem q462 : (Jvm.Cond.selects "[B" ({ cls := "[B", name := "clone", desc := "()Ljava/lang/Object;" } : Jvm.MethodName) ({ cls := "java/lang/Object", name := "clone", desc := "()Ljava/lang/Object;" } : Jvm.MethodName)) ∈ lw_all := lw_g (lw_at lw_m2 107 rfl) rfl
theorem q463 : (Jvm.Cond.castable "[B" "java/lang/Cloneable") ∈ lw_tbl := lw_at lw_m2 108 rfl
theorem q2746 : (Jvm.Cond.castable "[B" "java/lang/Object") ∈ lw_tbl := lw_at lw_m11 231 rfl

theorem q2748 : (Jvm.Cond.castable "[C" "java/lang/Object") ∈ lw_tbl := lw_at lw_m11 233 rfl
set_option maxRecDepth 100000

theorem q2747 : (Jvm.Cond.castable "[I" "java/lang/Object") ∈ lw_tbl := lw_at lw_m11 232 rfl
set_option maxRecDepth 100000

theorem q2749 : (Jvm.Cond.castable "[J" "java/lang/Object") ∈ lw_tbl := lw_at lw_m11 234 rfl
set_option maxRecDepth 100000

theorem q2742 : (Jvm.Cond.sameMethod "[Ljava/lang/Object;" "java/lang/Object" "getClass" "()Ljava/lang/Class;") ∈ lw_all := lw_g (lw_at lw_m11 227 rfl) rfl
set_option maxRecDepth 100000
theorem q2743 : (Jvm.Cond.selects "[Ljava/lang/Object;" ({ cls := "java/lang/Object", name := "getClass", desc := "()Ljava/lang/Class;" } : Jvm.MethodName) ({ cls := "java/lang/Object", name := "getClass", desc := "()Ljava/lang/Class;" } : Jvm.MethodName)) ∈ lw_all := lw_g (lw_at lw_m11 228 rfl) rfl
theorem q2745 : (Jvm.Cond.castable "[Ljava/lang/Object;" "java/lang/Object") ∈ lw_tbl := lw_at lw_m11 230 rfl

theorem q124 : (Jvm.Cond.initialized "java/lang/Enum") ∈ lw_all := lw_g (lw_at lw_m1 9 rfl) rfl
set_option maxRecDepth 100000

theorem q136 : (Jvm.Cond.initialized "java/lang/Number") ∈ lw_all := lw_g (lw_at lw_m1 21 rfl) rfl
set_option maxRecDepth 100000

theorem q140 : (Jvm.Cond.initialized "java/lang/System") ∈ lw_all := lw_g (lw_at lw_m1 25 rfl) rfl
set_option maxRecDepth 100000
theorem q469 : (Jvm.Cond.static ({ cls := "java/lang/System", name := "arraycopy", desc := "(Ljava/lang/Object;ILjava/lang/Object;II)V" } : Jvm.MethodName)) ∈ lw_all := lw_g (lw_at lw_m2 114 rfl) rfl
theorem q470 : (Jvm.Cond.native ({ cls := "java/lang/System", name := "arraycopy", desc := "(Ljava/lang/Object;ILjava/lang/Object;II)V" } : Jvm.MethodName)) ∈ lw_all := lw_g (lw_at lw_m2 115 rfl) rfl

theorem q1434 : (Jvm.Cond.interfaceMethod "java/util/Iterator" "java/util/Iterator" "hasNext" "()Z") ∈ lw_tbl := lw_at lw_m6 119 rfl
set_option maxRecDepth 100000
theorem q1435 : (Jvm.Cond.declares ({ cls := "java/util/Iterator", name := "hasNext", desc := "()Z" } : Jvm.MethodName)) ∈ lw_tbl := lw_at lw_m6 120 rfl
theorem q1444 : (Jvm.Cond.interfaceMethod "java/util/Iterator" "java/util/Iterator" "next" "()Ljava/lang/Object;") ∈ lw_tbl := lw_at lw_m6 129 rfl
theorem q1445 : (Jvm.Cond.declares ({ cls := "java/util/Iterator", name := "next", desc := "()Ljava/lang/Object;" } : Jvm.MethodName)) ∈ lw_tbl := lw_at lw_m6 130 rfl

theorem q820 : (Jvm.Cond.interfaceMethod "java/util/List" "java/util/List" "size" "()I") ∈ lw_tbl := lw_at lw_m3 225 rfl
set_option maxRecDepth 100000
theorem q821 : (Jvm.Cond.declares ({ cls := "java/util/List", name := "size", desc := "()I" } : Jvm.MethodName)) ∈ lw_tbl := lw_at lw_m3 226 rfl
theorem q848 : (Jvm.Cond.interfaceMethod "java/util/List" "java/util/List" "add" "(Ljava/lang/Object;)Z") ∈ lw_tbl := lw_at lw_m4 13 rfl
theorem q849 : (Jvm.Cond.declares ({ cls := "java/util/List", name := "add", desc := "(Ljava/lang/Object;)Z" } : Jvm.MethodName)) ∈ lw_tbl := lw_at lw_m4 14 rfl
theorem q939 : (Jvm.Cond.interfaceMethod "java/util/List" "java/util/List" "get" "(I)Ljava/lang/Object;") ∈ lw_tbl := lw_at lw_m4 104 rfl
theorem q940 : (Jvm.Cond.declares ({ cls := "java/util/List", name := "get", desc := "(I)Ljava/lang/Object;" } : Jvm.MethodName)) ∈ lw_tbl := lw_at lw_m4 105 rfl
theorem q1102 : (Jvm.Cond.interfaceMethod "java/util/List" "java/util/List" "isEmpty" "()Z") ∈ lw_tbl := lw_at lw_m5 27 rfl
theorem q1103 : (Jvm.Cond.declares ({ cls := "java/util/List", name := "isEmpty", desc := "()Z" } : Jvm.MethodName)) ∈ lw_tbl := lw_at lw_m5 28 rfl
theorem q1406 : (Jvm.Cond.interfaceMethod "java/util/List" "java/util/List" "iterator" "()Ljava/util/Iterator;") ∈ lw_tbl := lw_at lw_m6 91 rfl
theorem q1407 : (Jvm.Cond.declares ({ cls := "java/util/List", name := "iterator", desc := "()Ljava/util/Iterator;" } : Jvm.MethodName)) ∈ lw_tbl := lw_at lw_m6 92 rfl

theorem q766 : (Jvm.Cond.interfaceMethod "jdk/internal/access/JavaLangAccess" "jdk/internal/access/JavaLangAccess" "getUTF16Char" "([BI)C") ∈ lw_tbl := lw_at lw_m3 171 rfl
set_option maxRecDepth 100000
theorem q767 : (Jvm.Cond.declares ({ cls := "jdk/internal/access/JavaLangAccess", name := "getUTF16Char", desc := "([BI)C" } : Jvm.MethodName)) ∈ lw_tbl := lw_at lw_m3 172 rfl

theorem q174 : (Jvm.Cond.arrayOver (Jvm.ClassFile.FieldType.object "java/lang/Object")) ∈ lw_tbl := lw_at lw_m1 59 rfl
set_option maxRecDepth 100000
theorem q217 : (Jvm.Cond.arrayClass Jvm.ClassFile.FieldType.byte) ∈ lw_all := lw_g (lw_at lw_m1 102 rfl) rfl
theorem q297 : (Jvm.Cond.arrayClass Jvm.ClassFile.FieldType.int) ∈ lw_all := lw_g (lw_at lw_m1 182 rfl) rfl
theorem q2375 : (Jvm.Cond.arrayClass Jvm.ClassFile.FieldType.char) ∈ lw_all := lw_g (lw_at lw_m10 100 rfl) rfl
theorem q2703 : (Jvm.Cond.arrayClass Jvm.ClassFile.FieldType.long) ∈ lw_all := lw_g (lw_at lw_m11 188 rfl) rfl
theorem q2750 : (Jvm.Cond.arrayClass Jvm.ClassFile.FieldType.short) ∈ lw_all := lw_g (lw_at lw_m11 235 rfl) rfl
