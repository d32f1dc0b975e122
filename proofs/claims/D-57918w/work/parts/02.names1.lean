/-! DECODE ROWS BY BYTES: one lemma an opcode; a method's code is cut into short pieces once, and a row reads its own piece alone. -/
set_option maxRecDepth 100000
/-- the code has just these bytes from pc on -/
def DkAt (code : ByteArray) (pc : Nat) (bs : List UInt8) : Prop := ∀ (j : Nat) (b : UInt8), bs[j]? = some b → code.data.toList[pc + j]? = some b
/-- the piece W has the bytes bs from its place j on -/
def dkIn (W : List UInt8) (j : Nat) (bs : List UInt8) : Bool := decide ((W.drop j).take bs.length = bs)
theorem dk_seg {l W T : List UInt8} {o o2 : Nat} (h : l.drop o = W ++ T) (n : Nat) (hn : W.length = n) (ho : o + n = o2) : l.drop o2 = T := by
  subst ho
  rw [← List.drop_drop, h, List.drop_left' hn]
theorem dk_at {code : ByteArray} {W T bs : List UInt8} {o pc : Nat} (h : code.data.toList.drop o = W ++ T) (j : Nat) (hp : o + j = pc) (hw : dkIn W j bs = true) : DkAt code pc bs := by
  subst hp
  intro i b e
  have h1 := of_decide_eq_true hw
  have h2 : i < bs.length := (List.getElem?_eq_some_iff.mp e).1
  have h3 : W[j + i]? = some b := by
    rw [← h1, List.getElem?_take, if_pos h2, List.getElem?_drop] at e
    exact e
  have h4 : j + i < W.length := (List.getElem?_eq_some_iff.mp h3).1
  have h5 : (code.data.toList.drop o)[j + i]? = some b := by
    rw [h, List.getElem?_append_left h4]
    exact h3
  rw [List.getElem?_drop, ← Nat.add_assoc] at h5
  exact h5
theorem dk_u1 {A : ByteArray} {p : Nat} {b : UInt8} (h : A.data.toList[p]? = some b) : (Reader.u1 : Reader DecodeError Nat) A p = .ok (b.toNat, p + 1) := by
  obtain ⟨h1, h2⟩ := List.getElem?_eq_some_iff.mp h
  have h3 : p < A.size := by simpa using h1
  have h4 : A[p]'h3 = b := h2
  have e : (Reader.u1 : Reader DecodeError Nat) A p = (if h : p < A.size then .ok (A[p].toNat, p + 1) else .error (HasTruncated.truncated p)) := by
    show (do if h : p < A.size then do set (p + 1); Pure.pure A[p].toNat else MonadExcept.throw (HasTruncated.truncated p) : Reader DecodeError Nat) A p = _
    by_cases hi : p < A.size
    · rw [dif_pos hi, dif_pos hi]; rfl
    · rw [dif_neg hi, dif_neg hi]; rfl
  rw [e, dif_pos h3, h4]
theorem dk_bind {α β : Type} {r : Reader DecodeError α} {f : α → Reader DecodeError β} {A : ByteArray} {p s : Nat} {a : α} (h : r A p = .ok (a, s)) : (r >>= f) A p = f a A s := by
  show (do let (a, s) ← r A p; f a A s : Except DecodeError (β × Nat)) = _
  rw [h]
  rfl
theorem dk_map {α β : Type} {r : Reader DecodeError α} {g : α → β} {A : ByteArray} {p s : Nat} {a : α} (h : r A p = .ok (a, s)) : (g <$> r) A p = .ok (g a, s) := by
  show (do let (a, s) ← r A p; .ok (g a, s) : Except DecodeError (β × Nat)) = _
  rw [h]
  rfl
theorem dk_u2 {A : ByteArray} {p : Nat} {a b : UInt8} (h : A.data.toList[p]? = some a) (h2 : A.data.toList[p + 1]? = some b) : (Reader.u2 : Reader DecodeError Nat) A p = .ok (a.toNat * 256 + b.toNat, p + 2) := by
  show (Reader.u1 >>= fun hi => Reader.u1 >>= fun lo => Pure.pure (hi * 256 + lo) : Reader DecodeError Nat) A p = _
  rw [dk_bind (dk_u1 h), dk_bind (dk_u1 h2)]
  rfl
theorem dk_of {code : ByteArray} {pc n : Nat} {i : Instr} (h : Decoder.instr pc code pc = .ok (i, pc + n)) : decode code pc = .ok (i, n) := by
  have e : decode code pc = (match Decoder.instr pc code pc with | .error x => .error x | .ok (j, s) => .ok (j, s - pc)) := by
    show (do let (j, s) ← Decoder.instr pc code pc; Pure.pure (j, s - pc) : Except DecodeError (Instr × Nat)) = _
    cases Decoder.instr pc code pc <;> rfl
  rw [e, h]
  show Except.ok (i, pc + n - pc) = _
  rw [Nat.add_sub_cancel_left]
theorem dk_1 {code : ByteArray} {pc : Nat} (h : DkAt code pc [1]) : decode code pc = .ok (.aconst_null, 1) := dk_of ((dk_bind (dk_u1 (h 0 _ rfl))).trans rfl)
theorem dk_2 {code : ByteArray} {pc : Nat} (h : DkAt code pc [2]) : decode code pc = .ok (.iconst (-1), 1) := dk_of ((dk_bind (dk_u1 (h 0 _ rfl))).trans rfl)
theorem dk_3 {code : ByteArray} {pc : Nat} (h : DkAt code pc [3]) : decode code pc = .ok (.iconst 0, 1) := dk_of ((dk_bind (dk_u1 (h 0 _ rfl))).trans rfl)
theorem dk_4 {code : ByteArray} {pc : Nat} (h : DkAt code pc [4]) : decode code pc = .ok (.iconst 1, 1) := dk_of ((dk_bind (dk_u1 (h 0 _ rfl))).trans rfl)
theorem dk_5 {code : ByteArray} {pc : Nat} (h : DkAt code pc [5]) : decode code pc = .ok (.iconst 2, 1) := dk_of ((dk_bind (dk_u1 (h 0 _ rfl))).trans rfl)
theorem dk_6 {code : ByteArray} {pc : Nat} (h : DkAt code pc [6]) : decode code pc = .ok (.iconst 3, 1) := dk_of ((dk_bind (dk_u1 (h 0 _ rfl))).trans rfl)
theorem dk_7 {code : ByteArray} {pc : Nat} (h : DkAt code pc [7]) : decode code pc = .ok (.iconst 4, 1) := dk_of ((dk_bind (dk_u1 (h 0 _ rfl))).trans rfl)
theorem dk_8 {code : ByteArray} {pc : Nat} (h : DkAt code pc [8]) : decode code pc = .ok (.iconst 5, 1) := dk_of ((dk_bind (dk_u1 (h 0 _ rfl))).trans rfl)
theorem dk_9 {code : ByteArray} {pc : Nat} (h : DkAt code pc [9]) : decode code pc = .ok (.lconst 0, 1) := dk_of ((dk_bind (dk_u1 (h 0 _ rfl))).trans rfl)
theorem dk_10 {code : ByteArray} {pc : Nat} (h : DkAt code pc [10]) : decode code pc = .ok (.lconst 1, 1) := dk_of ((dk_bind (dk_u1 (h 0 _ rfl))).trans rfl)
theorem dk_11 {code : ByteArray} {pc : Nat} (h : DkAt code pc [11]) : decode code pc = .ok (.fconst 0, 1) := dk_of ((dk_bind (dk_u1 (h 0 _ rfl))).trans rfl)
theorem dk_16 {code : ByteArray} {pc : Nat} (a : UInt8) (h : DkAt code pc [16, a]) : decode code pc = .ok (.bipush (Reader.signed 8 a.toNat), 2) := dk_of ((dk_bind (dk_u1 (h 0 _ rfl))).trans ((dk_bind (dk_map (dk_u1 (h 1 _ rfl)))).trans rfl))
theorem dk_17 {code : ByteArray} {pc : Nat} (a b : UInt8) (h : DkAt code pc [17, a, b]) : decode code pc = .ok (.sipush (Reader.signed 16 (a.toNat * 256 + b.toNat)), 3) := dk_of ((dk_bind (dk_u1 (h 0 _ rfl))).trans ((dk_bind (dk_map (dk_u2 (h 1 _ rfl) (h 2 _ rfl)))).trans rfl))
theorem dk_18 {code : ByteArray} {pc : Nat} (a : UInt8) (h : DkAt code pc [18, a]) : decode code pc = .ok (.ldc a.toNat, 2) := dk_of ((dk_bind (dk_u1 (h 0 _ rfl))).trans ((dk_bind (dk_u1 (h 1 _ rfl))).trans rfl))
theorem dk_19 {code : ByteArray} {pc : Nat} (a b : UInt8) (h : DkAt code pc [19, a, b]) : decode code pc = .ok (.ldc_w (a.toNat * 256 + b.toNat), 3) := dk_of ((dk_bind (dk_u1 (h 0 _ rfl))).trans ((dk_bind (dk_u2 (h 1 _ rfl) (h 2 _ rfl))).trans rfl))
theorem dk_21 {code : ByteArray} {pc : Nat} (a : UInt8) (h : DkAt code pc [21, a]) : decode code pc = .ok (.iload a.toNat, 2) := dk_of ((dk_bind (dk_u1 (h 0 _ rfl))).trans ((dk_bind (dk_u1 (h 1 _ rfl))).trans rfl))
theorem dk_24 {code : ByteArray} {pc : Nat} (a : UInt8) (h : DkAt code pc [24, a]) : decode code pc = .ok (.dload a.toNat, 2) := dk_of ((dk_bind (dk_u1 (h 0 _ rfl))).trans ((dk_bind (dk_u1 (h 1 _ rfl))).trans rfl))
theorem dk_25 {code : ByteArray} {pc : Nat} (a : UInt8) (h : DkAt code pc [25, a]) : decode code pc = .ok (.aload a.toNat, 2) := dk_of ((dk_bind (dk_u1 (h 0 _ rfl))).trans ((dk_bind (dk_u1 (h 1 _ rfl))).trans rfl))
theorem dk_26 {code : ByteArray} {pc : Nat} (h : DkAt code pc [26]) : decode code pc = .ok (.iload_n 0, 1) := dk_of ((dk_bind (dk_u1 (h 0 _ rfl))).trans rfl)
theorem dk_27 {code : ByteArray} {pc : Nat} (h : DkAt code pc [27]) : decode code pc = .ok (.iload_n 1, 1) := dk_of ((dk_bind (dk_u1 (h 0 _ rfl))).trans rfl)
theorem dk_28 {code : ByteArray} {pc : Nat} (h : DkAt code pc [28]) : decode code pc = .ok (.iload_n 2, 1) := dk_of ((dk_bind (dk_u1 (h 0 _ rfl))).trans rfl)
theorem dk_29 {code : ByteArray} {pc : Nat} (h : DkAt code pc [29]) : decode code pc = .ok (.iload_n 3, 1) := dk_of ((dk_bind (dk_u1 (h 0 _ rfl))).trans rfl)
theorem dk_42 {code : ByteArray} {pc : Nat} (h : DkAt code pc [42]) : decode code pc = .ok (.aload_n 0, 1) := dk_of ((dk_bind (dk_u1 (h 0 _ rfl))).trans rfl)
theorem dk_43 {code : ByteArray} {pc : Nat} (h : DkAt code pc [43]) : decode code pc = .ok (.aload_n 1, 1) := dk_of ((dk_bind (dk_u1 (h 0 _ rfl))).trans rfl)
theorem dk_44 {code : ByteArray} {pc : Nat} (h : DkAt code pc [44]) : decode code pc = .ok (.aload_n 2, 1) := dk_of ((dk_bind (dk_u1 (h 0 _ rfl))).trans rfl)
theorem dk_45 {code : ByteArray} {pc : Nat} (h : DkAt code pc [45]) : decode code pc = .ok (.aload_n 3, 1) := dk_of ((dk_bind (dk_u1 (h 0 _ rfl))).trans rfl)
theorem dk_46 {code : ByteArray} {pc : Nat} (h : DkAt code pc [46]) : decode code pc = .ok (.iaload, 1) := dk_of ((dk_bind (dk_u1 (h 0 _ rfl))).trans rfl)
theorem dk_47 {code : ByteArray} {pc : Nat} (h : DkAt code pc [47]) : decode code pc = .ok (.laload, 1) := dk_of ((dk_bind (dk_u1 (h 0 _ rfl))).trans rfl)
theorem dk_50 {code : ByteArray} {pc : Nat} (h : DkAt code pc [50]) : decode code pc = .ok (.aaload, 1) := dk_of ((dk_bind (dk_u1 (h 0 _ rfl))).trans rfl)
theorem dk_51 {code : ByteArray} {pc : Nat} (h : DkAt code pc [51]) : decode code pc = .ok (.baload, 1) := dk_of ((dk_bind (dk_u1 (h 0 _ rfl))).trans rfl)
theorem dk_52 {code : ByteArray} {pc : Nat} (h : DkAt code pc [52]) : decode code pc = .ok (.caload, 1) := dk_of ((dk_bind (dk_u1 (h 0 _ rfl))).trans rfl)
theorem dk_53 {code : ByteArray} {pc : Nat} (h : DkAt code pc [53]) : decode code pc = .ok (.saload, 1) := dk_of ((dk_bind (dk_u1 (h 0 _ rfl))).trans rfl)
theorem dk_54 {code : ByteArray} {pc : Nat} (a : UInt8) (h : DkAt code pc [54, a]) : decode code pc = .ok (.istore a.toNat, 2) := dk_of ((dk_bind (dk_u1 (h 0 _ rfl))).trans ((dk_bind (dk_u1 (h 1 _ rfl))).trans rfl))
theorem dk_57 {code : ByteArray} {pc : Nat} (a : UInt8) (h : DkAt code pc [57, a]) : decode code pc = .ok (.dstore a.toNat, 2) := dk_of ((dk_bind (dk_u1 (h 0 _ rfl))).trans ((dk_bind (dk_u1 (h 1 _ rfl))).trans rfl))
theorem dk_58 {code : ByteArray} {pc : Nat} (a : UInt8) (h : DkAt code pc [58, a]) : decode code pc = .ok (.astore a.toNat, 2) := dk_of ((dk_bind (dk_u1 (h 0 _ rfl))).trans ((dk_bind (dk_u1 (h 1 _ rfl))).trans rfl))
theorem dk_59 {code : ByteArray} {pc : Nat} (h : DkAt code pc [59]) : decode code pc = .ok (.istore_n 0, 1) := dk_of ((dk_bind (dk_u1 (h 0 _ rfl))).trans rfl)
theorem dk_60 {code : ByteArray} {pc : Nat} (h : DkAt code pc [60]) : decode code pc = .ok (.istore_n 1, 1) := dk_of ((dk_bind (dk_u1 (h 0 _ rfl))).trans rfl)
theorem dk_61 {code : ByteArray} {pc : Nat} (h : DkAt code pc [61]) : decode code pc = .ok (.istore_n 2, 1) := dk_of ((dk_bind (dk_u1 (h 0 _ rfl))).trans rfl)
theorem dk_62 {code : ByteArray} {pc : Nat} (h : DkAt code pc [62]) : decode code pc = .ok (.istore_n 3, 1) := dk_of ((dk_bind (dk_u1 (h 0 _ rfl))).trans rfl)
theorem dk_76 {code : ByteArray} {pc : Nat} (h : DkAt code pc [76]) : decode code pc = .ok (.astore_n 1, 1) := dk_of ((dk_bind (dk_u1 (h 0 _ rfl))).trans rfl)
theorem dk_77 {code : ByteArray} {pc : Nat} (h : DkAt code pc [77]) : decode code pc = .ok (.astore_n 2, 1) := dk_of ((dk_bind (dk_u1 (h 0 _ rfl))).trans rfl)
theorem dk_78 {code : ByteArray} {pc : Nat} (h : DkAt code pc [78]) : decode code pc = .ok (.astore_n 3, 1) := dk_of ((dk_bind (dk_u1 (h 0 _ rfl))).trans rfl)
theorem dk_79 {code : ByteArray} {pc : Nat} (h : DkAt code pc [79]) : decode code pc = .ok (.iastore, 1) := dk_of ((dk_bind (dk_u1 (h 0 _ rfl))).trans rfl)
theorem dk_80 {code : ByteArray} {pc : Nat} (h : DkAt code pc [80]) : decode code pc = .ok (.lastore, 1) := dk_of ((dk_bind (dk_u1 (h 0 _ rfl))).trans rfl)
theorem dk_83 {code : ByteArray} {pc : Nat} (h : DkAt code pc [83]) : decode code pc = .ok (.aastore, 1) := dk_of ((dk_bind (dk_u1 (h 0 _ rfl))).trans rfl)
theorem dk_84 {code : ByteArray} {pc : Nat} (h : DkAt code pc [84]) : decode code pc = .ok (.bastore, 1) := dk_of ((dk_bind (dk_u1 (h 0 _ rfl))).trans rfl)
theorem dk_87 {code : ByteArray} {pc : Nat} (h : DkAt code pc [87]) : decode code pc = .ok (.pop, 1) := dk_of ((dk_bind (dk_u1 (h 0 _ rfl))).trans rfl)
theorem dk_89 {code : ByteArray} {pc : Nat} (h : DkAt code pc [89]) : decode code pc = .ok (.dup, 1) := dk_of ((dk_bind (dk_u1 (h 0 _ rfl))).trans rfl)
theorem dk_90 {code : ByteArray} {pc : Nat} (h : DkAt code pc [90]) : decode code pc = .ok (.dup_x1, 1) := dk_of ((dk_bind (dk_u1 (h 0 _ rfl))).trans rfl)
theorem dk_92 {code : ByteArray} {pc : Nat} (h : DkAt code pc [92]) : decode code pc = .ok (.dup2, 1) := dk_of ((dk_bind (dk_u1 (h 0 _ rfl))).trans rfl)
theorem dk_96 {code : ByteArray} {pc : Nat} (h : DkAt code pc [96]) : decode code pc = .ok (.iadd, 1) := dk_of ((dk_bind (dk_u1 (h 0 _ rfl))).trans rfl)
theorem dk_100 {code : ByteArray} {pc : Nat} (h : DkAt code pc [100]) : decode code pc = .ok (.isub, 1) := dk_of ((dk_bind (dk_u1 (h 0 _ rfl))).trans rfl)
theorem dk_104 {code : ByteArray} {pc : Nat} (h : DkAt code pc [104]) : decode code pc = .ok (.imul, 1) := dk_of ((dk_bind (dk_u1 (h 0 _ rfl))).trans rfl)
theorem dk_108 {code : ByteArray} {pc : Nat} (h : DkAt code pc [108]) : decode code pc = .ok (.idiv, 1) := dk_of ((dk_bind (dk_u1 (h 0 _ rfl))).trans rfl)
theorem dk_110 {code : ByteArray} {pc : Nat} (h : DkAt code pc [110]) : decode code pc = .ok (.fdiv, 1) := dk_of ((dk_bind (dk_u1 (h 0 _ rfl))).trans rfl)
theorem dk_111 {code : ByteArray} {pc : Nat} (h : DkAt code pc [111]) : decode code pc = .ok (.ddiv, 1) := dk_of ((dk_bind (dk_u1 (h 0 _ rfl))).trans rfl)
theorem dk_112 {code : ByteArray} {pc : Nat} (h : DkAt code pc [112]) : decode code pc = .ok (.irem, 1) := dk_of ((dk_bind (dk_u1 (h 0 _ rfl))).trans rfl)
theorem dk_116 {code : ByteArray} {pc : Nat} (h : DkAt code pc [116]) : decode code pc = .ok (.ineg, 1) := dk_of ((dk_bind (dk_u1 (h 0 _ rfl))).trans rfl)
theorem dk_120 {code : ByteArray} {pc : Nat} (h : DkAt code pc [120]) : decode code pc = .ok (.ishl, 1) := dk_of ((dk_bind (dk_u1 (h 0 _ rfl))).trans rfl)
theorem dk_122 {code : ByteArray} {pc : Nat} (h : DkAt code pc [122]) : decode code pc = .ok (.ishr, 1) := dk_of ((dk_bind (dk_u1 (h 0 _ rfl))).trans rfl)
theorem dk_124 {code : ByteArray} {pc : Nat} (h : DkAt code pc [124]) : decode code pc = .ok (.iushr, 1) := dk_of ((dk_bind (dk_u1 (h 0 _ rfl))).trans rfl)
theorem dk_126 {code : ByteArray} {pc : Nat} (h : DkAt code pc [126]) : decode code pc = .ok (.iand, 1) := dk_of ((dk_bind (dk_u1 (h 0 _ rfl))).trans rfl)
theorem dk_128 {code : ByteArray} {pc : Nat} (h : DkAt code pc [128]) : decode code pc = .ok (.ior, 1) := dk_of ((dk_bind (dk_u1 (h 0 _ rfl))).trans rfl)
theorem dk_132 {code : ByteArray} {pc : Nat} (a b : UInt8) (h : DkAt code pc [132, a, b]) : decode code pc = .ok (.iinc a.toNat (Reader.signed 8 b.toNat), 3) := dk_of ((dk_bind (dk_u1 (h 0 _ rfl))).trans ((dk_bind (dk_u1 (h 1 _ rfl))).trans ((dk_bind (dk_map (dk_u1 (h 2 _ rfl)))).trans rfl)))
theorem dk_133 {code : ByteArray} {pc : Nat} (h : DkAt code pc [133]) : decode code pc = .ok (.i2l, 1) := dk_of ((dk_bind (dk_u1 (h 0 _ rfl))).trans rfl)
theorem dk_134 {code : ByteArray} {pc : Nat} (h : DkAt code pc [134]) : decode code pc = .ok (.i2f, 1) := dk_of ((dk_bind (dk_u1 (h 0 _ rfl))).trans rfl)
theorem dk_135 {code : ByteArray} {pc : Nat} (h : DkAt code pc [135]) : decode code pc = .ok (.i2d, 1) := dk_of ((dk_bind (dk_u1 (h 0 _ rfl))).trans rfl)
theorem dk_141 {code : ByteArray} {pc : Nat} (h : DkAt code pc [141]) : decode code pc = .ok (.f2d, 1) := dk_of ((dk_bind (dk_u1 (h 0 _ rfl))).trans rfl)
theorem dk_145 {code : ByteArray} {pc : Nat} (h : DkAt code pc [145]) : decode code pc = .ok (.i2b, 1) := dk_of ((dk_bind (dk_u1 (h 0 _ rfl))).trans rfl)
theorem dk_146 {code : ByteArray} {pc : Nat} (h : DkAt code pc [146]) : decode code pc = .ok (.i2c, 1) := dk_of ((dk_bind (dk_u1 (h 0 _ rfl))).trans rfl)
theorem dk_148 {code : ByteArray} {pc : Nat} (h : DkAt code pc [148]) : decode code pc = .ok (.lcmp, 1) := dk_of ((dk_bind (dk_u1 (h 0 _ rfl))).trans rfl)
theorem dk_151 {code : ByteArray} {pc : Nat} (h : DkAt code pc [151]) : decode code pc = .ok (.dcmp .l, 1) := dk_of ((dk_bind (dk_u1 (h 0 _ rfl))).trans rfl)
theorem dk_153 {code : ByteArray} {pc : Nat} (a b : UInt8) (h : DkAt code pc [153, a, b]) : decode code pc = .ok (.ifCond .eq (Reader.signed 16 (a.toNat * 256 + b.toNat)), 3) := dk_of ((dk_bind (dk_u1 (h 0 _ rfl))).trans ((dk_bind (dk_map (dk_u2 (h 1 _ rfl) (h 2 _ rfl)))).trans rfl))
theorem dk_154 {code : ByteArray} {pc : Nat} (a b : UInt8) (h : DkAt code pc [154, a, b]) : decode code pc = .ok (.ifCond .ne (Reader.signed 16 (a.toNat * 256 + b.toNat)), 3) := dk_of ((dk_bind (dk_u1 (h 0 _ rfl))).trans ((dk_bind (dk_map (dk_u2 (h 1 _ rfl) (h 2 _ rfl)))).trans rfl))
theorem dk_155 {code : ByteArray} {pc : Nat} (a b : UInt8) (h : DkAt code pc [155, a, b]) : decode code pc = .ok (.ifCond .lt (Reader.signed 16 (a.toNat * 256 + b.toNat)), 3) := dk_of ((dk_bind (dk_u1 (h 0 _ rfl))).trans ((dk_bind (dk_map (dk_u2 (h 1 _ rfl) (h 2 _ rfl)))).trans rfl))
theorem dk_156 {code : ByteArray} {pc : Nat} (a b : UInt8) (h : DkAt code pc [156, a, b]) : decode code pc = .ok (.ifCond .ge (Reader.signed 16 (a.toNat * 256 + b.toNat)), 3) := dk_of ((dk_bind (dk_u1 (h 0 _ rfl))).trans ((dk_bind (dk_map (dk_u2 (h 1 _ rfl) (h 2 _ rfl)))).trans rfl))
theorem dk_157 {code : ByteArray} {pc : Nat} (a b : UInt8) (h : DkAt code pc [157, a, b]) : decode code pc = .ok (.ifCond .gt (Reader.signed 16 (a.toNat * 256 + b.toNat)), 3) := dk_of ((dk_bind (dk_u1 (h 0 _ rfl))).trans ((dk_bind (dk_map (dk_u2 (h 1 _ rfl) (h 2 _ rfl)))).trans rfl))
theorem dk_158 {code : ByteArray} {pc : Nat} (a b : UInt8) (h : DkAt code pc [158, a, b]) : decode code pc = .ok (.ifCond .le (Reader.signed 16 (a.toNat * 256 + b.toNat)), 3) := dk_of ((dk_bind (dk_u1 (h 0 _ rfl))).trans ((dk_bind (dk_map (dk_u2 (h 1 _ rfl) (h 2 _ rfl)))).trans rfl))
theorem dk_159 {code : ByteArray} {pc : Nat} (a b : UInt8) (h : DkAt code pc [159, a, b]) : decode code pc = .ok (.if_icmp .eq (Reader.signed 16 (a.toNat * 256 + b.toNat)), 3) := dk_of ((dk_bind (dk_u1 (h 0 _ rfl))).trans ((dk_bind (dk_map (dk_u2 (h 1 _ rfl) (h 2 _ rfl)))).trans rfl))
theorem dk_160 {code : ByteArray} {pc : Nat} (a b : UInt8) (h : DkAt code pc [160, a, b]) : decode code pc = .ok (.if_icmp .ne (Reader.signed 16 (a.toNat * 256 + b.toNat)), 3) := dk_of ((dk_bind (dk_u1 (h 0 _ rfl))).trans ((dk_bind (dk_map (dk_u2 (h 1 _ rfl) (h 2 _ rfl)))).trans rfl))
theorem dk_161 {code : ByteArray} {pc : Nat} (a b : UInt8) (h : DkAt code pc [161, a, b]) : decode code pc = .ok (.if_icmp .lt (Reader.signed 16 (a.toNat * 256 + b.toNat)), 3) := dk_of ((dk_bind (dk_u1 (h 0 _ rfl))).trans ((dk_bind (dk_map (dk_u2 (h 1 _ rfl) (h 2 _ rfl)))).trans rfl))
theorem dk_162 {code : ByteArray} {pc : Nat} (a b : UInt8) (h : DkAt code pc [162, a, b]) : decode code pc = .ok (.if_icmp .ge (Reader.signed 16 (a.toNat * 256 + b.toNat)), 3) := dk_of ((dk_bind (dk_u1 (h 0 _ rfl))).trans ((dk_bind (dk_map (dk_u2 (h 1 _ rfl) (h 2 _ rfl)))).trans rfl))
theorem dk_163 {code : ByteArray} {pc : Nat} (a b : UInt8) (h : DkAt code pc [163, a, b]) : decode code pc = .ok (.if_icmp .gt (Reader.signed 16 (a.toNat * 256 + b.toNat)), 3) := dk_of ((dk_bind (dk_u1 (h 0 _ rfl))).trans ((dk_bind (dk_map (dk_u2 (h 1 _ rfl) (h 2 _ rfl)))).trans rfl))
theorem dk_164 {code : ByteArray} {pc : Nat} (a b : UInt8) (h : DkAt code pc [164, a, b]) : decode code pc = .ok (.if_icmp .le (Reader.signed 16 (a.toNat * 256 + b.toNat)), 3) := dk_of ((dk_bind (dk_u1 (h 0 _ rfl))).trans ((dk_bind (dk_map (dk_u2 (h 1 _ rfl) (h 2 _ rfl)))).trans rfl))
theorem dk_165 {code : ByteArray} {pc : Nat} (a b : UInt8) (h : DkAt code pc [165, a, b]) : decode code pc = .ok (.if_acmp .eq (Reader.signed 16 (a.toNat * 256 + b.toNat)), 3) := dk_of ((dk_bind (dk_u1 (h 0 _ rfl))).trans ((dk_bind (dk_map (dk_u2 (h 1 _ rfl) (h 2 _ rfl)))).trans rfl))
theorem dk_166 {code : ByteArray} {pc : Nat} (a b : UInt8) (h : DkAt code pc [166, a, b]) : decode code pc = .ok (.if_acmp .ne (Reader.signed 16 (a.toNat * 256 + b.toNat)), 3) := dk_of ((dk_bind (dk_u1 (h 0 _ rfl))).trans ((dk_bind (dk_map (dk_u2 (h 1 _ rfl) (h 2 _ rfl)))).trans rfl))
theorem dk_167 {code : ByteArray} {pc : Nat} (a b : UInt8) (h : DkAt code pc [167, a, b]) : decode code pc = .ok (.goto (Reader.signed 16 (a.toNat * 256 + b.toNat)), 3) := dk_of ((dk_bind (dk_u1 (h 0 _ rfl))).trans ((dk_bind (dk_map (dk_u2 (h 1 _ rfl) (h 2 _ rfl)))).trans rfl))
theorem dk_172 {code : ByteArray} {pc : Nat} (h : DkAt code pc [172]) : decode code pc = .ok (.ireturn, 1) := dk_of ((dk_bind (dk_u1 (h 0 _ rfl))).trans rfl)
theorem dk_174 {code : ByteArray} {pc : Nat} (h : DkAt code pc [174]) : decode code pc = .ok (.freturn, 1) := dk_of ((dk_bind (dk_u1 (h 0 _ rfl))).trans rfl)
theorem dk_175 {code : ByteArray} {pc : Nat} (h : DkAt code pc [175]) : decode code pc = .ok (.dreturn, 1) := dk_of ((dk_bind (dk_u1 (h 0 _ rfl))).trans rfl)
theorem dk_176 {code : ByteArray} {pc : Nat} (h : DkAt code pc [176]) : decode code pc = .ok (.areturn, 1) := dk_of ((dk_bind (dk_u1 (h 0 _ rfl))).trans rfl)
theorem dk_177 {code : ByteArray} {pc : Nat} (h : DkAt code pc [177]) : decode code pc = .ok (.return_, 1) := dk_of ((dk_bind (dk_u1 (h 0 _ rfl))).trans rfl)
theorem dk_178 {code : ByteArray} {pc : Nat} (a b : UInt8) (h : DkAt code pc [178, a, b]) : decode code pc = .ok (.getstatic (a.toNat * 256 + b.toNat), 3) := dk_of ((dk_bind (dk_u1 (h 0 _ rfl))).trans ((dk_bind (dk_u2 (h 1 _ rfl) (h 2 _ rfl))).trans rfl))
theorem dk_180 {code : ByteArray} {pc : Nat} (a b : UInt8) (h : DkAt code pc [180, a, b]) : decode code pc = .ok (.getfield (a.toNat * 256 + b.toNat), 3) := dk_of ((dk_bind (dk_u1 (h 0 _ rfl))).trans ((dk_bind (dk_u2 (h 1 _ rfl) (h 2 _ rfl))).trans rfl))
theorem dk_181 {code : ByteArray} {pc : Nat} (a b : UInt8) (h : DkAt code pc [181, a, b]) : decode code pc = .ok (.putfield (a.toNat * 256 + b.toNat), 3) := dk_of ((dk_bind (dk_u1 (h 0 _ rfl))).trans ((dk_bind (dk_u2 (h 1 _ rfl) (h 2 _ rfl))).trans rfl))
theorem dk_182 {code : ByteArray} {pc : Nat} (a b : UInt8) (h : DkAt code pc [182, a, b]) : decode code pc = .ok (.invokevirtual (a.toNat * 256 + b.toNat), 3) := dk_of ((dk_bind (dk_u1 (h 0 _ rfl))).trans ((dk_bind (dk_u2 (h 1 _ rfl) (h 2 _ rfl))).trans rfl))
theorem dk_183 {code : ByteArray} {pc : Nat} (a b : UInt8) (h : DkAt code pc [183, a, b]) : decode code pc = .ok (.invokespecial (a.toNat * 256 + b.toNat), 3) := dk_of ((dk_bind (dk_u1 (h 0 _ rfl))).trans ((dk_bind (dk_u2 (h 1 _ rfl) (h 2 _ rfl))).trans rfl))
theorem dk_184 {code : ByteArray} {pc : Nat} (a b : UInt8) (h : DkAt code pc [184, a, b]) : decode code pc = .ok (.invokestatic (a.toNat * 256 + b.toNat), 3) := dk_of ((dk_bind (dk_u1 (h 0 _ rfl))).trans ((dk_bind (dk_u2 (h 1 _ rfl) (h 2 _ rfl))).trans rfl))
theorem dk_187 {code : ByteArray} {pc : Nat} (a b : UInt8) (h : DkAt code pc [187, a, b]) : decode code pc = .ok (.new (a.toNat * 256 + b.toNat), 3) := dk_of ((dk_bind (dk_u1 (h 0 _ rfl))).trans ((dk_bind (dk_u2 (h 1 _ rfl) (h 2 _ rfl))).trans rfl))
theorem dk_188_4 {code : ByteArray} {pc : Nat} (h : DkAt code pc [188, 4]) : decode code pc = .ok (.newarray .boolean, 2) := dk_of ((dk_bind (dk_u1 (h 0 _ rfl))).trans ((dk_bind (dk_u1 (h 1 _ rfl))).trans rfl))
theorem dk_188_8 {code : ByteArray} {pc : Nat} (h : DkAt code pc [188, 8]) : decode code pc = .ok (.newarray .byte, 2) := dk_of ((dk_bind (dk_u1 (h 0 _ rfl))).trans ((dk_bind (dk_u1 (h 1 _ rfl))).trans rfl))
theorem dk_188_10 {code : ByteArray} {pc : Nat} (h : DkAt code pc [188, 10]) : decode code pc = .ok (.newarray .int, 2) := dk_of ((dk_bind (dk_u1 (h 0 _ rfl))).trans ((dk_bind (dk_u1 (h 1 _ rfl))).trans rfl))
theorem dk_188_11 {code : ByteArray} {pc : Nat} (h : DkAt code pc [188, 11]) : decode code pc = .ok (.newarray .long, 2) := dk_of ((dk_bind (dk_u1 (h 0 _ rfl))).trans ((dk_bind (dk_u1 (h 1 _ rfl))).trans rfl))
theorem dk_189 {code : ByteArray} {pc : Nat} (a b : UInt8) (h : DkAt code pc [189, a, b]) : decode code pc = .ok (.anewarray (a.toNat * 256 + b.toNat), 3) := dk_of ((dk_bind (dk_u1 (h 0 _ rfl))).trans ((dk_bind (dk_u2 (h 1 _ rfl) (h 2 _ rfl))).trans rfl))
theorem dk_190 {code : ByteArray} {pc : Nat} (h : DkAt code pc [190]) : decode code pc = .ok (.arraylength, 1) := dk_of ((dk_bind (dk_u1 (h 0 _ rfl))).trans rfl)
theorem dk_191 {code : ByteArray} {pc : Nat} (h : DkAt code pc [191]) : decode code pc = .ok (.athrow, 1) := dk_of ((dk_bind (dk_u1 (h 0 _ rfl))).trans rfl)
theorem dk_192 {code : ByteArray} {pc : Nat} (a b : UInt8) (h : DkAt code pc [192, a, b]) : decode code pc = .ok (.checkcast (a.toNat * 256 + b.toNat), 3) := dk_of ((dk_bind (dk_u1 (h 0 _ rfl))).trans ((dk_bind (dk_u2 (h 1 _ rfl) (h 2 _ rfl))).trans rfl))
theorem dk_193 {code : ByteArray} {pc : Nat} (a b : UInt8) (h : DkAt code pc [193, a, b]) : decode code pc = .ok (.instanceof (a.toNat * 256 + b.toNat), 3) := dk_of ((dk_bind (dk_u1 (h 0 _ rfl))).trans ((dk_bind (dk_u2 (h 1 _ rfl) (h 2 _ rfl))).trans rfl))
theorem dk_198 {code : ByteArray} {pc : Nat} (a b : UInt8) (h : DkAt code pc [198, a, b]) : decode code pc = .ok (.ifnull (Reader.signed 16 (a.toNat * 256 + b.toNat)), 3) := dk_of ((dk_bind (dk_u1 (h 0 _ rfl))).trans ((dk_bind (dk_map (dk_u2 (h 1 _ rfl) (h 2 _ rfl)))).trans rfl))
theorem dk_199 {code : ByteArray} {pc : Nat} (a b : UInt8) (h : DkAt code pc [199, a, b]) : decode code pc = .ok (.ifnonnull (Reader.signed 16 (a.toNat * 256 + b.toNat)), 3) := dk_of ((dk_bind (dk_u1 (h 0 _ rfl))).trans ((dk_bind (dk_map (dk_u2 (h 1 _ rfl) (h 2 _ rfl)))).trans rfl))
/-! PrinterClaims -/
set_option maxRecDepth 100000
def RX1 : String := "PrinterClaims"
def TX1 : u_T := fun k => match k with
  | 0 => ("PrinterClaims", "buffer", "[B", true)
  | 1 => ("PrinterClaims", "history", "Ljava/util/ArrayDeque;", true)
  | 2 => ("PrinterClaims", "bufferLength", "I", false)
  | 3 => ("PrinterClaims", "errorCode", "I", false)
  | 4 => ("PrinterClaims", "errorOffset", "I", false)
  | 5 => ("PrinterClaims", "state", "LPrinterClaims$State;", false)
  | 6 => ("PrinterClaims", "snapshot", "LPrinterClaims$State;", false)
  | _ => ("PrinterClaims", "output", "Ljava/lang/String;", false)
def tyX1 : Nat → FieldType := fun k => match k with
  | 0 => .array .byte
  | 1 => .object "java/util/ArrayDeque"
  | 2 => .int
  | 3 => .int
  | 4 => .int
  | 5 => .object "PrinterClaims$State"
  | 6 => .object "PrinterClaims$State"
  | _ => .object "java/lang/String"
abbrev wsX10 : List Cond := u_ws RX1 TX1 8
theorem nmX1 : ∀ a, a < 8 → ∀ b, b < 8 → a ≠ b → (TX1 a).2.1 ≠ (TX1 b).2.1 := by decide +kernel
theorem tyX1_ok : ∀ k, k < 8 → parseFieldDescriptor (TX1 k).2.2.1 = some (tyX1 k) := by decide +kernel
abbrev cX1_init : ByteArray := prog_1_method_5_code
def yX1_init : MethodName := ⟨RX1, "<init>", "()V"⟩
def dkwX1_init_9 : List UInt8 := [3, 79, 89, 7, 3, 79, 89, 8, 5, 79, 182, 0, 44, 177]
abbrev dktX1_init_9 : List UInt8 := dkwX1_init_9 ++ []
def dkwX1_init_8 : List UInt8 := [4, 79, 182, 0, 44, 42, 16, 6, 188, 10, 89, 3, 7, 79, 89, 4, 6, 79, 89, 5, 6, 79, 89, 6]
abbrev dktX1_init_8 : List UInt8 := dkwX1_init_8 ++ dktX1_init_9
def dkwX1_init_7 : List UInt8 := [188, 10, 89, 3, 5, 79, 89, 4, 5, 79, 89, 5, 5, 79, 89, 6, 5, 79, 89, 7, 4, 79, 89, 8]
abbrev dktX1_init_7 : List UInt8 := dkwX1_init_7 ++ dktX1_init_8
def dkwX1_init_6 : List UInt8 := [79, 89, 5, 5, 79, 89, 6, 6, 79, 89, 7, 3, 79, 89, 8, 5, 79, 182, 0, 44, 42, 16, 6]
abbrev dktX1_init_6 : List UInt8 := dkwX1_init_6 ++ dktX1_init_7
def dkwX1_init_5 : List UInt8 := [89, 7, 3, 79, 89, 8, 3, 79, 182, 0, 44, 42, 16, 6, 188, 10, 89, 3, 16, 9, 79, 89, 4, 3]
abbrev dktX1_init_5 : List UInt8 := dkwX1_init_5 ++ dktX1_init_6
def dkwX1_init_4 : List UInt8 := [182, 0, 44, 42, 16, 6, 188, 10, 89, 3, 6, 79, 89, 4, 5, 79, 89, 5, 5, 79, 89, 6, 5, 79]
abbrev dktX1_init_4 : List UInt8 := dkwX1_init_4 ++ dktX1_init_5
def dkwX1_init_3 : List UInt8 := [16, 7, 79, 89, 4, 8, 79, 89, 5, 6, 79, 89, 6, 3, 79, 89, 7, 4, 79, 89, 8, 3, 79]
abbrev dktX1_init_3 : List UInt8 := dkwX1_init_3 ++ dktX1_init_4
def dkwX1_init_2 : List UInt8 := [5, 16, 7, 79, 76, 42, 187, 0, 35, 89, 43, 183, 0, 37, 181, 0, 40, 42, 16, 6, 188, 10, 89, 3]
abbrev dktX1_init_2 : List UInt8 := dkwX1_init_2 ++ dktX1_init_3
def dkwX1_init_1 : List UInt8 := [42, 2, 181, 0, 25, 42, 18, 29, 181, 0, 31, 6, 188, 10, 89, 3, 16, 10, 79, 89, 4, 8, 79, 89]
abbrev dktX1_init_1 : List UInt8 := dkwX1_init_1 ++ dktX1_init_2
def dkwX1_init_0 : List UInt8 := [42, 183, 0, 7, 42, 17, 1, 244, 188, 8, 181, 0, 14, 42, 187, 0, 18, 89, 183, 0, 20, 181, 0, 21]
abbrev dktX1_init_0 : List UInt8 := dkwX1_init_0 ++ dktX1_init_1
theorem dksX1_init_0 : cX1_init.data.toList.drop 0 = dktX1_init_0 := by decide +kernel
theorem dksX1_init_1 : cX1_init.data.toList.drop 24 = dktX1_init_1 := dk_seg dksX1_init_0 24 rfl rfl
theorem dksX1_init_2 : cX1_init.data.toList.drop 48 = dktX1_init_2 := dk_seg dksX1_init_1 24 rfl rfl
theorem dksX1_init_3 : cX1_init.data.toList.drop 72 = dktX1_init_3 := dk_seg dksX1_init_2 24 rfl rfl
theorem dksX1_init_4 : cX1_init.data.toList.drop 95 = dktX1_init_4 := dk_seg dksX1_init_3 23 rfl rfl
theorem dksX1_init_5 : cX1_init.data.toList.drop 119 = dktX1_init_5 := dk_seg dksX1_init_4 24 rfl rfl
theorem dksX1_init_6 : cX1_init.data.toList.drop 143 = dktX1_init_6 := dk_seg dksX1_init_5 24 rfl rfl
theorem dksX1_init_7 : cX1_init.data.toList.drop 166 = dktX1_init_7 := dk_seg dksX1_init_6 23 rfl rfl
theorem dksX1_init_8 : cX1_init.data.toList.drop 190 = dktX1_init_8 := dk_seg dksX1_init_7 24 rfl rfl
theorem dksX1_init_9 : cX1_init.data.toList.drop 214 = dktX1_init_9 := dk_seg dksX1_init_8 24 rfl rfl
theorem dX1_init_0 : decode cX1_init 0 = .ok (.aload_n 0, 1) := dk_42 (dk_at dksX1_init_0 0 rfl rfl)
theorem dX1_init_1 : decode cX1_init 1 = .ok (.invokespecial 7, 3) := dk_183 0 7 (dk_at dksX1_init_0 1 rfl rfl)
theorem dX1_init_4 : decode cX1_init 4 = .ok (.aload_n 0, 1) := dk_42 (dk_at dksX1_init_0 4 rfl rfl)
theorem dX1_init_5 : decode cX1_init 5 = .ok (.sipush 500, 3) := dk_17 1 244 (dk_at dksX1_init_0 5 rfl rfl)
theorem dX1_init_8 : decode cX1_init 8 = .ok (.newarray .byte, 2) := dk_188_8 (dk_at dksX1_init_0 8 rfl rfl)
theorem dX1_init_10 : decode cX1_init 10 = .ok (.putfield 14, 3) := dk_181 0 14 (dk_at dksX1_init_0 10 rfl rfl)
theorem dX1_init_13 : decode cX1_init 13 = .ok (.aload_n 0, 1) := dk_42 (dk_at dksX1_init_0 13 rfl rfl)
theorem dX1_init_14 : decode cX1_init 14 = .ok (.new 18, 3) := dk_187 0 18 (dk_at dksX1_init_0 14 rfl rfl)
theorem dX1_init_17 : decode cX1_init 17 = .ok (.dup, 1) := dk_89 (dk_at dksX1_init_0 17 rfl rfl)
theorem dX1_init_18 : decode cX1_init 18 = .ok (.invokespecial 20, 3) := dk_183 0 20 (dk_at dksX1_init_0 18 rfl rfl)
theorem dX1_init_21 : decode cX1_init 21 = .ok (.putfield 21, 3) := dk_181 0 21 (dk_at dksX1_init_0 21 rfl rfl)
theorem dX1_init_24 : decode cX1_init 24 = .ok (.aload_n 0, 1) := dk_42 (dk_at dksX1_init_1 0 rfl rfl)
theorem dX1_init_25 : decode cX1_init 25 = .ok (.iconst (-1), 1) := dk_2 (dk_at dksX1_init_1 1 rfl rfl)
theorem dX1_init_26 : decode cX1_init 26 = .ok (.putfield 25, 3) := dk_181 0 25 (dk_at dksX1_init_1 2 rfl rfl)
theorem dX1_init_29 : decode cX1_init 29 = .ok (.aload_n 0, 1) := dk_42 (dk_at dksX1_init_1 5 rfl rfl)
theorem dX1_init_30 : decode cX1_init 30 = .ok (.ldc 29, 2) := dk_18 29 (dk_at dksX1_init_1 6 rfl rfl)
theorem dX1_init_32 : decode cX1_init 32 = .ok (.putfield 31, 3) := dk_181 0 31 (dk_at dksX1_init_1 8 rfl rfl)
theorem dX1_init_35 : decode cX1_init 35 = .ok (.iconst 3, 1) := dk_6 (dk_at dksX1_init_1 11 rfl rfl)
theorem dX1_init_36 : decode cX1_init 36 = .ok (.newarray .int, 2) := dk_188_10 (dk_at dksX1_init_1 12 rfl rfl)
theorem dX1_init_38 : decode cX1_init 38 = .ok (.dup, 1) := dk_89 (dk_at dksX1_init_1 14 rfl rfl)
theorem dX1_init_39 : decode cX1_init 39 = .ok (.iconst 0, 1) := dk_3 (dk_at dksX1_init_1 15 rfl rfl)
theorem dX1_init_40 : decode cX1_init 40 = .ok (.bipush 10, 2) := dk_16 10 (dk_at dksX1_init_1 16 rfl rfl)
theorem dX1_init_42 : decode cX1_init 42 = .ok (.iastore, 1) := dk_79 (dk_at dksX1_init_1 18 rfl rfl)
theorem dX1_init_43 : decode cX1_init 43 = .ok (.dup, 1) := dk_89 (dk_at dksX1_init_1 19 rfl rfl)
theorem dX1_init_44 : decode cX1_init 44 = .ok (.iconst 1, 1) := dk_4 (dk_at dksX1_init_1 20 rfl rfl)
theorem dX1_init_45 : decode cX1_init 45 = .ok (.iconst 5, 1) := dk_8 (dk_at dksX1_init_1 21 rfl rfl)
theorem dX1_init_46 : decode cX1_init 46 = .ok (.iastore, 1) := dk_79 (dk_at dksX1_init_1 22 rfl rfl)
theorem dX1_init_47 : decode cX1_init 47 = .ok (.dup, 1) := dk_89 (dk_at dksX1_init_1 23 rfl rfl)
theorem dX1_init_48 : decode cX1_init 48 = .ok (.iconst 2, 1) := dk_5 (dk_at dksX1_init_2 0 rfl rfl)
theorem dX1_init_49 : decode cX1_init 49 = .ok (.bipush 7, 2) := dk_16 7 (dk_at dksX1_init_2 1 rfl rfl)
theorem dX1_init_51 : decode cX1_init 51 = .ok (.iastore, 1) := dk_79 (dk_at dksX1_init_2 3 rfl rfl)
theorem dX1_init_52 : decode cX1_init 52 = .ok (.astore_n 1, 1) := dk_76 (dk_at dksX1_init_2 4 rfl rfl)
theorem dX1_init_53 : decode cX1_init 53 = .ok (.aload_n 0, 1) := dk_42 (dk_at dksX1_init_2 5 rfl rfl)
theorem dX1_init_54 : decode cX1_init 54 = .ok (.new 35, 3) := dk_187 0 35 (dk_at dksX1_init_2 6 rfl rfl)
theorem dX1_init_57 : decode cX1_init 57 = .ok (.dup, 1) := dk_89 (dk_at dksX1_init_2 9 rfl rfl)
theorem dX1_init_58 : decode cX1_init 58 = .ok (.aload_n 1, 1) := dk_43 (dk_at dksX1_init_2 10 rfl rfl)
theorem dX1_init_59 : decode cX1_init 59 = .ok (.invokespecial 37, 3) := dk_183 0 37 (dk_at dksX1_init_2 11 rfl rfl)
theorem dX1_init_62 : decode cX1_init 62 = .ok (.putfield 40, 3) := dk_181 0 40 (dk_at dksX1_init_2 14 rfl rfl)
theorem dX1_init_65 : decode cX1_init 65 = .ok (.aload_n 0, 1) := dk_42 (dk_at dksX1_init_2 17 rfl rfl)
theorem dX1_init_66 : decode cX1_init 66 = .ok (.bipush 6, 2) := dk_16 6 (dk_at dksX1_init_2 18 rfl rfl)
theorem dX1_init_68 : decode cX1_init 68 = .ok (.newarray .int, 2) := dk_188_10 (dk_at dksX1_init_2 20 rfl rfl)
theorem dX1_init_70 : decode cX1_init 70 = .ok (.dup, 1) := dk_89 (dk_at dksX1_init_2 22 rfl rfl)
theorem dX1_init_71 : decode cX1_init 71 = .ok (.iconst 0, 1) := dk_3 (dk_at dksX1_init_2 23 rfl rfl)
theorem dX1_init_72 : decode cX1_init 72 = .ok (.bipush 7, 2) := dk_16 7 (dk_at dksX1_init_3 0 rfl rfl)
theorem dX1_init_74 : decode cX1_init 74 = .ok (.iastore, 1) := dk_79 (dk_at dksX1_init_3 2 rfl rfl)
theorem dX1_init_75 : decode cX1_init 75 = .ok (.dup, 1) := dk_89 (dk_at dksX1_init_3 3 rfl rfl)
theorem dX1_init_76 : decode cX1_init 76 = .ok (.iconst 1, 1) := dk_4 (dk_at dksX1_init_3 4 rfl rfl)
theorem dX1_init_77 : decode cX1_init 77 = .ok (.iconst 5, 1) := dk_8 (dk_at dksX1_init_3 5 rfl rfl)
theorem dX1_init_78 : decode cX1_init 78 = .ok (.iastore, 1) := dk_79 (dk_at dksX1_init_3 6 rfl rfl)
theorem dX1_init_79 : decode cX1_init 79 = .ok (.dup, 1) := dk_89 (dk_at dksX1_init_3 7 rfl rfl)
theorem dX1_init_80 : decode cX1_init 80 = .ok (.iconst 2, 1) := dk_5 (dk_at dksX1_init_3 8 rfl rfl)
theorem dX1_init_81 : decode cX1_init 81 = .ok (.iconst 3, 1) := dk_6 (dk_at dksX1_init_3 9 rfl rfl)
theorem dX1_init_82 : decode cX1_init 82 = .ok (.iastore, 1) := dk_79 (dk_at dksX1_init_3 10 rfl rfl)
theorem dX1_init_83 : decode cX1_init 83 = .ok (.dup, 1) := dk_89 (dk_at dksX1_init_3 11 rfl rfl)
theorem dX1_init_84 : decode cX1_init 84 = .ok (.iconst 3, 1) := dk_6 (dk_at dksX1_init_3 12 rfl rfl)
theorem dX1_init_85 : decode cX1_init 85 = .ok (.iconst 0, 1) := dk_3 (dk_at dksX1_init_3 13 rfl rfl)
theorem dX1_init_86 : decode cX1_init 86 = .ok (.iastore, 1) := dk_79 (dk_at dksX1_init_3 14 rfl rfl)
theorem dX1_init_87 : decode cX1_init 87 = .ok (.dup, 1) := dk_89 (dk_at dksX1_init_3 15 rfl rfl)
theorem dX1_init_88 : decode cX1_init 88 = .ok (.iconst 4, 1) := dk_7 (dk_at dksX1_init_3 16 rfl rfl)
theorem dX1_init_89 : decode cX1_init 89 = .ok (.iconst 1, 1) := dk_4 (dk_at dksX1_init_3 17 rfl rfl)
theorem dX1_init_90 : decode cX1_init 90 = .ok (.iastore, 1) := dk_79 (dk_at dksX1_init_3 18 rfl rfl)
theorem dX1_init_91 : decode cX1_init 91 = .ok (.dup, 1) := dk_89 (dk_at dksX1_init_3 19 rfl rfl)
theorem dX1_init_92 : decode cX1_init 92 = .ok (.iconst 5, 1) := dk_8 (dk_at dksX1_init_3 20 rfl rfl)
theorem dX1_init_93 : decode cX1_init 93 = .ok (.iconst 0, 1) := dk_3 (dk_at dksX1_init_3 21 rfl rfl)
theorem dX1_init_94 : decode cX1_init 94 = .ok (.iastore, 1) := dk_79 (dk_at dksX1_init_3 22 rfl rfl)
theorem dX1_init_95 : decode cX1_init 95 = .ok (.invokevirtual 44, 3) := dk_182 0 44 (dk_at dksX1_init_4 0 rfl rfl)
theorem dX1_init_98 : decode cX1_init 98 = .ok (.aload_n 0, 1) := dk_42 (dk_at dksX1_init_4 3 rfl rfl)
theorem dX1_init_99 : decode cX1_init 99 = .ok (.bipush 6, 2) := dk_16 6 (dk_at dksX1_init_4 4 rfl rfl)
theorem dX1_init_101 : decode cX1_init 101 = .ok (.newarray .int, 2) := dk_188_10 (dk_at dksX1_init_4 6 rfl rfl)
theorem dX1_init_103 : decode cX1_init 103 = .ok (.dup, 1) := dk_89 (dk_at dksX1_init_4 8 rfl rfl)
theorem dX1_init_104 : decode cX1_init 104 = .ok (.iconst 0, 1) := dk_3 (dk_at dksX1_init_4 9 rfl rfl)
theorem dX1_init_105 : decode cX1_init 105 = .ok (.iconst 3, 1) := dk_6 (dk_at dksX1_init_4 10 rfl rfl)
theorem dX1_init_106 : decode cX1_init 106 = .ok (.iastore, 1) := dk_79 (dk_at dksX1_init_4 11 rfl rfl)
theorem dX1_init_107 : decode cX1_init 107 = .ok (.dup, 1) := dk_89 (dk_at dksX1_init_4 12 rfl rfl)
theorem dX1_init_108 : decode cX1_init 108 = .ok (.iconst 1, 1) := dk_4 (dk_at dksX1_init_4 13 rfl rfl)
theorem dX1_init_109 : decode cX1_init 109 = .ok (.iconst 2, 1) := dk_5 (dk_at dksX1_init_4 14 rfl rfl)
theorem dX1_init_110 : decode cX1_init 110 = .ok (.iastore, 1) := dk_79 (dk_at dksX1_init_4 15 rfl rfl)
theorem dX1_init_111 : decode cX1_init 111 = .ok (.dup, 1) := dk_89 (dk_at dksX1_init_4 16 rfl rfl)
theorem dX1_init_112 : decode cX1_init 112 = .ok (.iconst 2, 1) := dk_5 (dk_at dksX1_init_4 17 rfl rfl)
theorem dX1_init_113 : decode cX1_init 113 = .ok (.iconst 2, 1) := dk_5 (dk_at dksX1_init_4 18 rfl rfl)
theorem dX1_init_114 : decode cX1_init 114 = .ok (.iastore, 1) := dk_79 (dk_at dksX1_init_4 19 rfl rfl)
theorem dX1_init_115 : decode cX1_init 115 = .ok (.dup, 1) := dk_89 (dk_at dksX1_init_4 20 rfl rfl)
theorem dX1_init_116 : decode cX1_init 116 = .ok (.iconst 3, 1) := dk_6 (dk_at dksX1_init_4 21 rfl rfl)
theorem dX1_init_117 : decode cX1_init 117 = .ok (.iconst 2, 1) := dk_5 (dk_at dksX1_init_4 22 rfl rfl)
theorem dX1_init_118 : decode cX1_init 118 = .ok (.iastore, 1) := dk_79 (dk_at dksX1_init_4 23 rfl rfl)
theorem dX1_init_119 : decode cX1_init 119 = .ok (.dup, 1) := dk_89 (dk_at dksX1_init_5 0 rfl rfl)
theorem dX1_init_120 : decode cX1_init 120 = .ok (.iconst 4, 1) := dk_7 (dk_at dksX1_init_5 1 rfl rfl)
theorem dX1_init_121 : decode cX1_init 121 = .ok (.iconst 0, 1) := dk_3 (dk_at dksX1_init_5 2 rfl rfl)
theorem dX1_init_122 : decode cX1_init 122 = .ok (.iastore, 1) := dk_79 (dk_at dksX1_init_5 3 rfl rfl)
theorem dX1_init_123 : decode cX1_init 123 = .ok (.dup, 1) := dk_89 (dk_at dksX1_init_5 4 rfl rfl)
theorem dX1_init_124 : decode cX1_init 124 = .ok (.iconst 5, 1) := dk_8 (dk_at dksX1_init_5 5 rfl rfl)
theorem dX1_init_125 : decode cX1_init 125 = .ok (.iconst 0, 1) := dk_3 (dk_at dksX1_init_5 6 rfl rfl)
theorem dX1_init_126 : decode cX1_init 126 = .ok (.iastore, 1) := dk_79 (dk_at dksX1_init_5 7 rfl rfl)
theorem dX1_init_127 : decode cX1_init 127 = .ok (.invokevirtual 44, 3) := dk_182 0 44 (dk_at dksX1_init_5 8 rfl rfl)
theorem dX1_init_130 : decode cX1_init 130 = .ok (.aload_n 0, 1) := dk_42 (dk_at dksX1_init_5 11 rfl rfl)
theorem dX1_init_131 : decode cX1_init 131 = .ok (.bipush 6, 2) := dk_16 6 (dk_at dksX1_init_5 12 rfl rfl)
theorem dX1_init_133 : decode cX1_init 133 = .ok (.newarray .int, 2) := dk_188_10 (dk_at dksX1_init_5 14 rfl rfl)
theorem dX1_init_135 : decode cX1_init 135 = .ok (.dup, 1) := dk_89 (dk_at dksX1_init_5 16 rfl rfl)
theorem dX1_init_136 : decode cX1_init 136 = .ok (.iconst 0, 1) := dk_3 (dk_at dksX1_init_5 17 rfl rfl)
theorem dX1_init_137 : decode cX1_init 137 = .ok (.bipush 9, 2) := dk_16 9 (dk_at dksX1_init_5 18 rfl rfl)
theorem dX1_init_139 : decode cX1_init 139 = .ok (.iastore, 1) := dk_79 (dk_at dksX1_init_5 20 rfl rfl)
theorem dX1_init_140 : decode cX1_init 140 = .ok (.dup, 1) := dk_89 (dk_at dksX1_init_5 21 rfl rfl)
theorem dX1_init_141 : decode cX1_init 141 = .ok (.iconst 1, 1) := dk_4 (dk_at dksX1_init_5 22 rfl rfl)
theorem dX1_init_142 : decode cX1_init 142 = .ok (.iconst 0, 1) := dk_3 (dk_at dksX1_init_5 23 rfl rfl)
theorem dX1_init_143 : decode cX1_init 143 = .ok (.iastore, 1) := dk_79 (dk_at dksX1_init_6 0 rfl rfl)
theorem dX1_init_144 : decode cX1_init 144 = .ok (.dup, 1) := dk_89 (dk_at dksX1_init_6 1 rfl rfl)
theorem dX1_init_145 : decode cX1_init 145 = .ok (.iconst 2, 1) := dk_5 (dk_at dksX1_init_6 2 rfl rfl)
theorem dX1_init_146 : decode cX1_init 146 = .ok (.iconst 2, 1) := dk_5 (dk_at dksX1_init_6 3 rfl rfl)
theorem dX1_init_147 : decode cX1_init 147 = .ok (.iastore, 1) := dk_79 (dk_at dksX1_init_6 4 rfl rfl)
theorem dX1_init_148 : decode cX1_init 148 = .ok (.dup, 1) := dk_89 (dk_at dksX1_init_6 5 rfl rfl)
theorem dX1_init_149 : decode cX1_init 149 = .ok (.iconst 3, 1) := dk_6 (dk_at dksX1_init_6 6 rfl rfl)
theorem dX1_init_150 : decode cX1_init 150 = .ok (.iconst 3, 1) := dk_6 (dk_at dksX1_init_6 7 rfl rfl)
theorem dX1_init_151 : decode cX1_init 151 = .ok (.iastore, 1) := dk_79 (dk_at dksX1_init_6 8 rfl rfl)
theorem dX1_init_152 : decode cX1_init 152 = .ok (.dup, 1) := dk_89 (dk_at dksX1_init_6 9 rfl rfl)
theorem dX1_init_153 : decode cX1_init 153 = .ok (.iconst 4, 1) := dk_7 (dk_at dksX1_init_6 10 rfl rfl)
theorem dX1_init_154 : decode cX1_init 154 = .ok (.iconst 0, 1) := dk_3 (dk_at dksX1_init_6 11 rfl rfl)
theorem dX1_init_155 : decode cX1_init 155 = .ok (.iastore, 1) := dk_79 (dk_at dksX1_init_6 12 rfl rfl)
theorem dX1_init_156 : decode cX1_init 156 = .ok (.dup, 1) := dk_89 (dk_at dksX1_init_6 13 rfl rfl)
theorem dX1_init_157 : decode cX1_init 157 = .ok (.iconst 5, 1) := dk_8 (dk_at dksX1_init_6 14 rfl rfl)
theorem dX1_init_158 : decode cX1_init 158 = .ok (.iconst 2, 1) := dk_5 (dk_at dksX1_init_6 15 rfl rfl)
theorem dX1_init_159 : decode cX1_init 159 = .ok (.iastore, 1) := dk_79 (dk_at dksX1_init_6 16 rfl rfl)
theorem dX1_init_160 : decode cX1_init 160 = .ok (.invokevirtual 44, 3) := dk_182 0 44 (dk_at dksX1_init_6 17 rfl rfl)
theorem dX1_init_163 : decode cX1_init 163 = .ok (.aload_n 0, 1) := dk_42 (dk_at dksX1_init_6 20 rfl rfl)
theorem dX1_init_164 : decode cX1_init 164 = .ok (.bipush 6, 2) := dk_16 6 (dk_at dksX1_init_6 21 rfl rfl)
theorem dX1_init_166 : decode cX1_init 166 = .ok (.newarray .int, 2) := dk_188_10 (dk_at dksX1_init_7 0 rfl rfl)
theorem dX1_init_168 : decode cX1_init 168 = .ok (.dup, 1) := dk_89 (dk_at dksX1_init_7 2 rfl rfl)
theorem dX1_init_169 : decode cX1_init 169 = .ok (.iconst 0, 1) := dk_3 (dk_at dksX1_init_7 3 rfl rfl)
theorem dX1_init_170 : decode cX1_init 170 = .ok (.iconst 2, 1) := dk_5 (dk_at dksX1_init_7 4 rfl rfl)
theorem dX1_init_171 : decode cX1_init 171 = .ok (.iastore, 1) := dk_79 (dk_at dksX1_init_7 5 rfl rfl)
theorem dX1_init_172 : decode cX1_init 172 = .ok (.dup, 1) := dk_89 (dk_at dksX1_init_7 6 rfl rfl)
theorem dX1_init_173 : decode cX1_init 173 = .ok (.iconst 1, 1) := dk_4 (dk_at dksX1_init_7 7 rfl rfl)
theorem dX1_init_174 : decode cX1_init 174 = .ok (.iconst 2, 1) := dk_5 (dk_at dksX1_init_7 8 rfl rfl)
theorem dX1_init_175 : decode cX1_init 175 = .ok (.iastore, 1) := dk_79 (dk_at dksX1_init_7 9 rfl rfl)
theorem dX1_init_176 : decode cX1_init 176 = .ok (.dup, 1) := dk_89 (dk_at dksX1_init_7 10 rfl rfl)
theorem dX1_init_177 : decode cX1_init 177 = .ok (.iconst 2, 1) := dk_5 (dk_at dksX1_init_7 11 rfl rfl)
theorem dX1_init_178 : decode cX1_init 178 = .ok (.iconst 2, 1) := dk_5 (dk_at dksX1_init_7 12 rfl rfl)
theorem dX1_init_179 : decode cX1_init 179 = .ok (.iastore, 1) := dk_79 (dk_at dksX1_init_7 13 rfl rfl)
theorem dX1_init_180 : decode cX1_init 180 = .ok (.dup, 1) := dk_89 (dk_at dksX1_init_7 14 rfl rfl)
theorem dX1_init_181 : decode cX1_init 181 = .ok (.iconst 3, 1) := dk_6 (dk_at dksX1_init_7 15 rfl rfl)
theorem dX1_init_182 : decode cX1_init 182 = .ok (.iconst 2, 1) := dk_5 (dk_at dksX1_init_7 16 rfl rfl)
theorem dX1_init_183 : decode cX1_init 183 = .ok (.iastore, 1) := dk_79 (dk_at dksX1_init_7 17 rfl rfl)
theorem dX1_init_184 : decode cX1_init 184 = .ok (.dup, 1) := dk_89 (dk_at dksX1_init_7 18 rfl rfl)
theorem dX1_init_185 : decode cX1_init 185 = .ok (.iconst 4, 1) := dk_7 (dk_at dksX1_init_7 19 rfl rfl)
theorem dX1_init_186 : decode cX1_init 186 = .ok (.iconst 1, 1) := dk_4 (dk_at dksX1_init_7 20 rfl rfl)
theorem dX1_init_187 : decode cX1_init 187 = .ok (.iastore, 1) := dk_79 (dk_at dksX1_init_7 21 rfl rfl)
theorem dX1_init_188 : decode cX1_init 188 = .ok (.dup, 1) := dk_89 (dk_at dksX1_init_7 22 rfl rfl)
theorem dX1_init_189 : decode cX1_init 189 = .ok (.iconst 5, 1) := dk_8 (dk_at dksX1_init_7 23 rfl rfl)
theorem dX1_init_190 : decode cX1_init 190 = .ok (.iconst 1, 1) := dk_4 (dk_at dksX1_init_8 0 rfl rfl)
theorem dX1_init_191 : decode cX1_init 191 = .ok (.iastore, 1) := dk_79 (dk_at dksX1_init_8 1 rfl rfl)
theorem dX1_init_192 : decode cX1_init 192 = .ok (.invokevirtual 44, 3) := dk_182 0 44 (dk_at dksX1_init_8 2 rfl rfl)
theorem dX1_init_195 : decode cX1_init 195 = .ok (.aload_n 0, 1) := dk_42 (dk_at dksX1_init_8 5 rfl rfl)
theorem dX1_init_196 : decode cX1_init 196 = .ok (.bipush 6, 2) := dk_16 6 (dk_at dksX1_init_8 6 rfl rfl)
theorem dX1_init_198 : decode cX1_init 198 = .ok (.newarray .int, 2) := dk_188_10 (dk_at dksX1_init_8 8 rfl rfl)
theorem dX1_init_200 : decode cX1_init 200 = .ok (.dup, 1) := dk_89 (dk_at dksX1_init_8 10 rfl rfl)
theorem dX1_init_201 : decode cX1_init 201 = .ok (.iconst 0, 1) := dk_3 (dk_at dksX1_init_8 11 rfl rfl)
theorem dX1_init_202 : decode cX1_init 202 = .ok (.iconst 4, 1) := dk_7 (dk_at dksX1_init_8 12 rfl rfl)
theorem dX1_init_203 : decode cX1_init 203 = .ok (.iastore, 1) := dk_79 (dk_at dksX1_init_8 13 rfl rfl)
theorem dX1_init_204 : decode cX1_init 204 = .ok (.dup, 1) := dk_89 (dk_at dksX1_init_8 14 rfl rfl)
theorem dX1_init_205 : decode cX1_init 205 = .ok (.iconst 1, 1) := dk_4 (dk_at dksX1_init_8 15 rfl rfl)
theorem dX1_init_206 : decode cX1_init 206 = .ok (.iconst 3, 1) := dk_6 (dk_at dksX1_init_8 16 rfl rfl)
theorem dX1_init_207 : decode cX1_init 207 = .ok (.iastore, 1) := dk_79 (dk_at dksX1_init_8 17 rfl rfl)
theorem dX1_init_208 : decode cX1_init 208 = .ok (.dup, 1) := dk_89 (dk_at dksX1_init_8 18 rfl rfl)
theorem dX1_init_209 : decode cX1_init 209 = .ok (.iconst 2, 1) := dk_5 (dk_at dksX1_init_8 19 rfl rfl)
theorem dX1_init_210 : decode cX1_init 210 = .ok (.iconst 3, 1) := dk_6 (dk_at dksX1_init_8 20 rfl rfl)
theorem dX1_init_211 : decode cX1_init 211 = .ok (.iastore, 1) := dk_79 (dk_at dksX1_init_8 21 rfl rfl)
theorem dX1_init_212 : decode cX1_init 212 = .ok (.dup, 1) := dk_89 (dk_at dksX1_init_8 22 rfl rfl)
theorem dX1_init_213 : decode cX1_init 213 = .ok (.iconst 3, 1) := dk_6 (dk_at dksX1_init_8 23 rfl rfl)
theorem dX1_init_214 : decode cX1_init 214 = .ok (.iconst 0, 1) := dk_3 (dk_at dksX1_init_9 0 rfl rfl)
theorem dX1_init_215 : decode cX1_init 215 = .ok (.iastore, 1) := dk_79 (dk_at dksX1_init_9 1 rfl rfl)
theorem dX1_init_216 : decode cX1_init 216 = .ok (.dup, 1) := dk_89 (dk_at dksX1_init_9 2 rfl rfl)
theorem dX1_init_217 : decode cX1_init 217 = .ok (.iconst 4, 1) := dk_7 (dk_at dksX1_init_9 3 rfl rfl)
theorem dX1_init_218 : decode cX1_init 218 = .ok (.iconst 0, 1) := dk_3 (dk_at dksX1_init_9 4 rfl rfl)
theorem dX1_init_219 : decode cX1_init 219 = .ok (.iastore, 1) := dk_79 (dk_at dksX1_init_9 5 rfl rfl)
theorem dX1_init_220 : decode cX1_init 220 = .ok (.dup, 1) := dk_89 (dk_at dksX1_init_9 6 rfl rfl)
theorem dX1_init_221 : decode cX1_init 221 = .ok (.iconst 5, 1) := dk_8 (dk_at dksX1_init_9 7 rfl rfl)
theorem dX1_init_222 : decode cX1_init 222 = .ok (.iconst 2, 1) := dk_5 (dk_at dksX1_init_9 8 rfl rfl)
theorem dX1_init_223 : decode cX1_init 223 = .ok (.iastore, 1) := dk_79 (dk_at dksX1_init_9 9 rfl rfl)
theorem dX1_init_224 : decode cX1_init 224 = .ok (.invokevirtual 44, 3) := dk_182 0 44 (dk_at dksX1_init_9 10 rfl rfl)
theorem dX1_init_227 : decode cX1_init 227 = .ok (.return_, 1) := dk_177 (dk_at dksX1_init_9 13 rfl rfl)
abbrev cX1_addFirst : ByteArray := prog_1_method_6_code
def yX1_addFirst : MethodName := ⟨RX1, "addFirst", "([I)V"⟩
def dkwX1_addFirst_2 : List UInt8 := [180, 0, 40, 187, 0, 47, 89, 44, 45, 183, 0, 49, 182, 0, 52, 177]
abbrev dktX1_addFirst_2 : List UInt8 := dkwX1_addFirst_2 ++ []
def dkwX1_addFirst_1 : List UInt8 := [188, 10, 89, 3, 43, 6, 46, 79, 89, 4, 43, 7, 46, 79, 89, 5, 43, 8, 46, 79, 78, 42]
abbrev dktX1_addFirst_1 : List UInt8 := dkwX1_addFirst_1 ++ dktX1_addFirst_2
def dkwX1_addFirst_0 : List UInt8 := [6, 188, 10, 89, 3, 43, 3, 46, 79, 89, 4, 43, 4, 46, 79, 89, 5, 43, 5, 46, 79, 77, 6]
abbrev dktX1_addFirst_0 : List UInt8 := dkwX1_addFirst_0 ++ dktX1_addFirst_1
theorem dksX1_addFirst_0 : cX1_addFirst.data.toList.drop 0 = dktX1_addFirst_0 := by decide +kernel
theorem dksX1_addFirst_1 : cX1_addFirst.data.toList.drop 23 = dktX1_addFirst_1 := dk_seg dksX1_addFirst_0 23 rfl rfl
theorem dksX1_addFirst_2 : cX1_addFirst.data.toList.drop 45 = dktX1_addFirst_2 := dk_seg dksX1_addFirst_1 22 rfl rfl
theorem dX1_addFirst_0 : decode cX1_addFirst 0 = .ok (.iconst 3, 1) := dk_6 (dk_at dksX1_addFirst_0 0 rfl rfl)
theorem dX1_addFirst_1 : decode cX1_addFirst 1 = .ok (.newarray .int, 2) := dk_188_10 (dk_at dksX1_addFirst_0 1 rfl rfl)
theorem dX1_addFirst_3 : decode cX1_addFirst 3 = .ok (.dup, 1) := dk_89 (dk_at dksX1_addFirst_0 3 rfl rfl)
theorem dX1_addFirst_4 : decode cX1_addFirst 4 = .ok (.iconst 0, 1) := dk_3 (dk_at dksX1_addFirst_0 4 rfl rfl)
theorem dX1_addFirst_5 : decode cX1_addFirst 5 = .ok (.aload_n 1, 1) := dk_43 (dk_at dksX1_addFirst_0 5 rfl rfl)
theorem dX1_addFirst_6 : decode cX1_addFirst 6 = .ok (.iconst 0, 1) := dk_3 (dk_at dksX1_addFirst_0 6 rfl rfl)
theorem dX1_addFirst_7 : decode cX1_addFirst 7 = .ok (.iaload, 1) := dk_46 (dk_at dksX1_addFirst_0 7 rfl rfl)
theorem dX1_addFirst_8 : decode cX1_addFirst 8 = .ok (.iastore, 1) := dk_79 (dk_at dksX1_addFirst_0 8 rfl rfl)
theorem dX1_addFirst_9 : decode cX1_addFirst 9 = .ok (.dup, 1) := dk_89 (dk_at dksX1_addFirst_0 9 rfl rfl)
theorem dX1_addFirst_10 : decode cX1_addFirst 10 = .ok (.iconst 1, 1) := dk_4 (dk_at dksX1_addFirst_0 10 rfl rfl)
theorem dX1_addFirst_11 : decode cX1_addFirst 11 = .ok (.aload_n 1, 1) := dk_43 (dk_at dksX1_addFirst_0 11 rfl rfl)
theorem dX1_addFirst_12 : decode cX1_addFirst 12 = .ok (.iconst 1, 1) := dk_4 (dk_at dksX1_addFirst_0 12 rfl rfl)
theorem dX1_addFirst_13 : decode cX1_addFirst 13 = .ok (.iaload, 1) := dk_46 (dk_at dksX1_addFirst_0 13 rfl rfl)
theorem dX1_addFirst_14 : decode cX1_addFirst 14 = .ok (.iastore, 1) := dk_79 (dk_at dksX1_addFirst_0 14 rfl rfl)
theorem dX1_addFirst_15 : decode cX1_addFirst 15 = .ok (.dup, 1) := dk_89 (dk_at dksX1_addFirst_0 15 rfl rfl)
theorem dX1_addFirst_16 : decode cX1_addFirst 16 = .ok (.iconst 2, 1) := dk_5 (dk_at dksX1_addFirst_0 16 rfl rfl)
theorem dX1_addFirst_17 : decode cX1_addFirst 17 = .ok (.aload_n 1, 1) := dk_43 (dk_at dksX1_addFirst_0 17 rfl rfl)
theorem dX1_addFirst_18 : decode cX1_addFirst 18 = .ok (.iconst 2, 1) := dk_5 (dk_at dksX1_addFirst_0 18 rfl rfl)
theorem dX1_addFirst_19 : decode cX1_addFirst 19 = .ok (.iaload, 1) := dk_46 (dk_at dksX1_addFirst_0 19 rfl rfl)
theorem dX1_addFirst_20 : decode cX1_addFirst 20 = .ok (.iastore, 1) := dk_79 (dk_at dksX1_addFirst_0 20 rfl rfl)
theorem dX1_addFirst_21 : decode cX1_addFirst 21 = .ok (.astore_n 2, 1) := dk_77 (dk_at dksX1_addFirst_0 21 rfl rfl)
theorem dX1_addFirst_22 : decode cX1_addFirst 22 = .ok (.iconst 3, 1) := dk_6 (dk_at dksX1_addFirst_0 22 rfl rfl)
theorem dX1_addFirst_23 : decode cX1_addFirst 23 = .ok (.newarray .int, 2) := dk_188_10 (dk_at dksX1_addFirst_1 0 rfl rfl)
theorem dX1_addFirst_25 : decode cX1_addFirst 25 = .ok (.dup, 1) := dk_89 (dk_at dksX1_addFirst_1 2 rfl rfl)
theorem dX1_addFirst_26 : decode cX1_addFirst 26 = .ok (.iconst 0, 1) := dk_3 (dk_at dksX1_addFirst_1 3 rfl rfl)
theorem dX1_addFirst_27 : decode cX1_addFirst 27 = .ok (.aload_n 1, 1) := dk_43 (dk_at dksX1_addFirst_1 4 rfl rfl)
theorem dX1_addFirst_28 : decode cX1_addFirst 28 = .ok (.iconst 3, 1) := dk_6 (dk_at dksX1_addFirst_1 5 rfl rfl)
theorem dX1_addFirst_29 : decode cX1_addFirst 29 = .ok (.iaload, 1) := dk_46 (dk_at dksX1_addFirst_1 6 rfl rfl)
theorem dX1_addFirst_30 : decode cX1_addFirst 30 = .ok (.iastore, 1) := dk_79 (dk_at dksX1_addFirst_1 7 rfl rfl)
theorem dX1_addFirst_31 : decode cX1_addFirst 31 = .ok (.dup, 1) := dk_89 (dk_at dksX1_addFirst_1 8 rfl rfl)
theorem dX1_addFirst_32 : decode cX1_addFirst 32 = .ok (.iconst 1, 1) := dk_4 (dk_at dksX1_addFirst_1 9 rfl rfl)
theorem dX1_addFirst_33 : decode cX1_addFirst 33 = .ok (.aload_n 1, 1) := dk_43 (dk_at dksX1_addFirst_1 10 rfl rfl)
theorem dX1_addFirst_34 : decode cX1_addFirst 34 = .ok (.iconst 4, 1) := dk_7 (dk_at dksX1_addFirst_1 11 rfl rfl)
theorem dX1_addFirst_35 : decode cX1_addFirst 35 = .ok (.iaload, 1) := dk_46 (dk_at dksX1_addFirst_1 12 rfl rfl)
theorem dX1_addFirst_36 : decode cX1_addFirst 36 = .ok (.iastore, 1) := dk_79 (dk_at dksX1_addFirst_1 13 rfl rfl)
theorem dX1_addFirst_37 : decode cX1_addFirst 37 = .ok (.dup, 1) := dk_89 (dk_at dksX1_addFirst_1 14 rfl rfl)
theorem dX1_addFirst_38 : decode cX1_addFirst 38 = .ok (.iconst 2, 1) := dk_5 (dk_at dksX1_addFirst_1 15 rfl rfl)
theorem dX1_addFirst_39 : decode cX1_addFirst 39 = .ok (.aload_n 1, 1) := dk_43 (dk_at dksX1_addFirst_1 16 rfl rfl)
theorem dX1_addFirst_40 : decode cX1_addFirst 40 = .ok (.iconst 5, 1) := dk_8 (dk_at dksX1_addFirst_1 17 rfl rfl)
theorem dX1_addFirst_41 : decode cX1_addFirst 41 = .ok (.iaload, 1) := dk_46 (dk_at dksX1_addFirst_1 18 rfl rfl)
theorem dX1_addFirst_42 : decode cX1_addFirst 42 = .ok (.iastore, 1) := dk_79 (dk_at dksX1_addFirst_1 19 rfl rfl)
theorem dX1_addFirst_43 : decode cX1_addFirst 43 = .ok (.astore_n 3, 1) := dk_78 (dk_at dksX1_addFirst_1 20 rfl rfl)
theorem dX1_addFirst_44 : decode cX1_addFirst 44 = .ok (.aload_n 0, 1) := dk_42 (dk_at dksX1_addFirst_1 21 rfl rfl)
theorem dX1_addFirst_45 : decode cX1_addFirst 45 = .ok (.getfield 40, 3) := dk_180 0 40 (dk_at dksX1_addFirst_2 0 rfl rfl)
theorem dX1_addFirst_48 : decode cX1_addFirst 48 = .ok (.new 47, 3) := dk_187 0 47 (dk_at dksX1_addFirst_2 3 rfl rfl)
theorem dX1_addFirst_51 : decode cX1_addFirst 51 = .ok (.dup, 1) := dk_89 (dk_at dksX1_addFirst_2 6 rfl rfl)
theorem dX1_addFirst_52 : decode cX1_addFirst 52 = .ok (.aload_n 2, 1) := dk_44 (dk_at dksX1_addFirst_2 7 rfl rfl)
theorem dX1_addFirst_53 : decode cX1_addFirst 53 = .ok (.aload_n 3, 1) := dk_45 (dk_at dksX1_addFirst_2 8 rfl rfl)
theorem dX1_addFirst_54 : decode cX1_addFirst 54 = .ok (.invokespecial 49, 3) := dk_183 0 49 (dk_at dksX1_addFirst_2 9 rfl rfl)
theorem dX1_addFirst_57 : decode cX1_addFirst 57 = .ok (.invokevirtual 52, 3) := dk_182 0 52 (dk_at dksX1_addFirst_2 12 rfl rfl)
theorem dX1_addFirst_60 : decode cX1_addFirst 60 = .ok (.return_, 1) := dk_177 (dk_at dksX1_addFirst_2 15 rfl rfl)
abbrev cX1_sum : ByteArray := prog_1_method_3_code
def yX1_sum : MethodName := ⟨RX1, "sum", "([I)I"⟩
def dkwX1_sum_1 : List UInt8 := [21, 5, 96, 60, 132, 4, 1, 167, 255, 236, 27, 172]
abbrev dktX1_sum_1 : List UInt8 := dkwX1_sum_1 ++ []
def dkwX1_sum_0 : List UInt8 := [3, 60, 42, 77, 44, 190, 62, 3, 54, 4, 21, 4, 29, 162, 0, 20, 44, 21, 4, 46, 54, 5, 27]
abbrev dktX1_sum_0 : List UInt8 := dkwX1_sum_0 ++ dktX1_sum_1
theorem dksX1_sum_0 : cX1_sum.data.toList.drop 0 = dktX1_sum_0 := by decide +kernel
theorem dksX1_sum_1 : cX1_sum.data.toList.drop 23 = dktX1_sum_1 := dk_seg dksX1_sum_0 23 rfl rfl
theorem dX1_sum_0 : decode cX1_sum 0 = .ok (.iconst 0, 1) := dk_3 (dk_at dksX1_sum_0 0 rfl rfl)
theorem dX1_sum_1 : decode cX1_sum 1 = .ok (.istore_n 1, 1) := dk_60 (dk_at dksX1_sum_0 1 rfl rfl)
theorem dX1_sum_2 : decode cX1_sum 2 = .ok (.aload_n 0, 1) := dk_42 (dk_at dksX1_sum_0 2 rfl rfl)
theorem dX1_sum_3 : decode cX1_sum 3 = .ok (.astore_n 2, 1) := dk_77 (dk_at dksX1_sum_0 3 rfl rfl)
theorem dX1_sum_4 : decode cX1_sum 4 = .ok (.aload_n 2, 1) := dk_44 (dk_at dksX1_sum_0 4 rfl rfl)
theorem dX1_sum_5 : decode cX1_sum 5 = .ok (.arraylength, 1) := dk_190 (dk_at dksX1_sum_0 5 rfl rfl)
theorem dX1_sum_6 : decode cX1_sum 6 = .ok (.istore_n 3, 1) := dk_62 (dk_at dksX1_sum_0 6 rfl rfl)
theorem dX1_sum_7 : decode cX1_sum 7 = .ok (.iconst 0, 1) := dk_3 (dk_at dksX1_sum_0 7 rfl rfl)
theorem dX1_sum_8 : decode cX1_sum 8 = .ok (.istore 4, 2) := dk_54 4 (dk_at dksX1_sum_0 8 rfl rfl)
theorem dX1_sum_10 : decode cX1_sum 10 = .ok (.iload 4, 2) := dk_21 4 (dk_at dksX1_sum_0 10 rfl rfl)
theorem dX1_sum_12 : decode cX1_sum 12 = .ok (.iload_n 3, 1) := dk_29 (dk_at dksX1_sum_0 12 rfl rfl)
theorem dX1_sum_13 : decode cX1_sum 13 = .ok (.if_icmp .ge 20, 3) := dk_162 0 20 (dk_at dksX1_sum_0 13 rfl rfl)
theorem dX1_sum_16 : decode cX1_sum 16 = .ok (.aload_n 2, 1) := dk_44 (dk_at dksX1_sum_0 16 rfl rfl)
theorem dX1_sum_17 : decode cX1_sum 17 = .ok (.iload 4, 2) := dk_21 4 (dk_at dksX1_sum_0 17 rfl rfl)
theorem dX1_sum_19 : decode cX1_sum 19 = .ok (.iaload, 1) := dk_46 (dk_at dksX1_sum_0 19 rfl rfl)
theorem dX1_sum_20 : decode cX1_sum 20 = .ok (.istore 5, 2) := dk_54 5 (dk_at dksX1_sum_0 20 rfl rfl)
theorem dX1_sum_22 : decode cX1_sum 22 = .ok (.iload_n 1, 1) := dk_27 (dk_at dksX1_sum_0 22 rfl rfl)
theorem dX1_sum_23 : decode cX1_sum 23 = .ok (.iload 5, 2) := dk_21 5 (dk_at dksX1_sum_1 0 rfl rfl)
theorem dX1_sum_25 : decode cX1_sum 25 = .ok (.iadd, 1) := dk_96 (dk_at dksX1_sum_1 2 rfl rfl)
theorem dX1_sum_26 : decode cX1_sum 26 = .ok (.istore_n 1, 1) := dk_60 (dk_at dksX1_sum_1 3 rfl rfl)
theorem dX1_sum_27 : decode cX1_sum 27 = .ok (.iinc 4 1, 3) := dk_132 4 1 (dk_at dksX1_sum_1 4 rfl rfl)
theorem dX1_sum_30 : decode cX1_sum 30 = .ok (.goto (-20), 3) := dk_167 255 236 (dk_at dksX1_sum_1 7 rfl rfl)
theorem dX1_sum_33 : decode cX1_sum 33 = .ok (.iload_n 1, 1) := dk_27 (dk_at dksX1_sum_1 10 rfl rfl)
theorem dX1_sum_34 : decode cX1_sum 34 = .ok (.ireturn, 1) := dk_172 (dk_at dksX1_sum_1 11 rfl rfl)
abbrev cX1_appendText : ByteArray := prog_1_method_15_code
def yX1_appendText : MethodName := ⟨RX1, "appendText", "(IIIII)I"⟩
def dkwX1_appendText_5 : List UInt8 := [172]
abbrev dktX1_appendText_5 : List UInt8 := dkwX1_appendText_5 ++ []
def dkwX1_appendText_4 : List UInt8 := [180, 0, 130, 4, 96, 181, 0, 130, 132, 11, 248, 167, 255, 223, 132, 9, 1, 167, 255, 199, 42, 180, 0, 130]
abbrev dktX1_appendText_4 : List UInt8 := dkwX1_appendText_4 ++ dktX1_appendText_5
def dkwX1_appendText_3 : List UInt8 := [21, 11, 155, 0, 34, 42, 180, 0, 14, 42, 180, 0, 130, 21, 10, 21, 11, 122, 145, 84, 42, 89]
abbrev dktX1_appendText_3 : List UInt8 := dkwX1_appendText_3 ++ dktX1_appendText_4
def dkwX1_appendText_2 : List UInt8 := [190, 54, 8, 3, 54, 9, 21, 9, 21, 8, 162, 0, 56, 25, 7, 21, 9, 46, 54, 10, 16, 24, 54, 11]
abbrev dktX1_appendText_2 : List UInt8 := dkwX1_appendText_2 ++ dktX1_appendText_3
def dkwX1_appendText_1 : List UInt8 := [28, 79, 89, 5, 29, 79, 89, 6, 21, 4, 79, 89, 7, 21, 5, 79, 58, 6, 25, 6, 58, 7, 25, 7]
abbrev dktX1_appendText_1 : List UInt8 := dkwX1_appendText_1 ++ dktX1_appendText_2
def dkwX1_appendText_0 : List UInt8 := [42, 180, 0, 130, 16, 20, 96, 17, 1, 244, 164, 0, 5, 2, 172, 8, 188, 10, 89, 3, 27, 79, 89, 4]
abbrev dktX1_appendText_0 : List UInt8 := dkwX1_appendText_0 ++ dktX1_appendText_1
theorem dksX1_appendText_0 : cX1_appendText.data.toList.drop 0 = dktX1_appendText_0 := by decide +kernel
theorem dksX1_appendText_1 : cX1_appendText.data.toList.drop 24 = dktX1_appendText_1 := dk_seg dksX1_appendText_0 24 rfl rfl
theorem dksX1_appendText_2 : cX1_appendText.data.toList.drop 48 = dktX1_appendText_2 := dk_seg dksX1_appendText_1 24 rfl rfl
theorem dksX1_appendText_3 : cX1_appendText.data.toList.drop 72 = dktX1_appendText_3 := dk_seg dksX1_appendText_2 24 rfl rfl
theorem dksX1_appendText_4 : cX1_appendText.data.toList.drop 94 = dktX1_appendText_4 := dk_seg dksX1_appendText_3 22 rfl rfl
theorem dksX1_appendText_5 : cX1_appendText.data.toList.drop 118 = dktX1_appendText_5 := dk_seg dksX1_appendText_4 24 rfl rfl
theorem dX1_appendText_0 : decode cX1_appendText 0 = .ok (.aload_n 0, 1) := dk_42 (dk_at dksX1_appendText_0 0 rfl rfl)
theorem dX1_appendText_1 : decode cX1_appendText 1 = .ok (.getfield 130, 3) := dk_180 0 130 (dk_at dksX1_appendText_0 1 rfl rfl)
theorem dX1_appendText_4 : decode cX1_appendText 4 = .ok (.bipush 20, 2) := dk_16 20 (dk_at dksX1_appendText_0 4 rfl rfl)
theorem dX1_appendText_6 : decode cX1_appendText 6 = .ok (.iadd, 1) := dk_96 (dk_at dksX1_appendText_0 6 rfl rfl)
theorem dX1_appendText_7 : decode cX1_appendText 7 = .ok (.sipush 500, 3) := dk_17 1 244 (dk_at dksX1_appendText_0 7 rfl rfl)
theorem dX1_appendText_10 : decode cX1_appendText 10 = .ok (.if_icmp .le 5, 3) := dk_164 0 5 (dk_at dksX1_appendText_0 10 rfl rfl)
theorem dX1_appendText_13 : decode cX1_appendText 13 = .ok (.iconst (-1), 1) := dk_2 (dk_at dksX1_appendText_0 13 rfl rfl)
theorem dX1_appendText_14 : decode cX1_appendText 14 = .ok (.ireturn, 1) := dk_172 (dk_at dksX1_appendText_0 14 rfl rfl)
theorem dX1_appendText_15 : decode cX1_appendText 15 = .ok (.iconst 5, 1) := dk_8 (dk_at dksX1_appendText_0 15 rfl rfl)
theorem dX1_appendText_16 : decode cX1_appendText 16 = .ok (.newarray .int, 2) := dk_188_10 (dk_at dksX1_appendText_0 16 rfl rfl)
theorem dX1_appendText_18 : decode cX1_appendText 18 = .ok (.dup, 1) := dk_89 (dk_at dksX1_appendText_0 18 rfl rfl)
theorem dX1_appendText_19 : decode cX1_appendText 19 = .ok (.iconst 0, 1) := dk_3 (dk_at dksX1_appendText_0 19 rfl rfl)
theorem dX1_appendText_20 : decode cX1_appendText 20 = .ok (.iload_n 1, 1) := dk_27 (dk_at dksX1_appendText_0 20 rfl rfl)
theorem dX1_appendText_21 : decode cX1_appendText 21 = .ok (.iastore, 1) := dk_79 (dk_at dksX1_appendText_0 21 rfl rfl)
theorem dX1_appendText_22 : decode cX1_appendText 22 = .ok (.dup, 1) := dk_89 (dk_at dksX1_appendText_0 22 rfl rfl)
theorem dX1_appendText_23 : decode cX1_appendText 23 = .ok (.iconst 1, 1) := dk_4 (dk_at dksX1_appendText_0 23 rfl rfl)
theorem dX1_appendText_24 : decode cX1_appendText 24 = .ok (.iload_n 2, 1) := dk_28 (dk_at dksX1_appendText_1 0 rfl rfl)
theorem dX1_appendText_25 : decode cX1_appendText 25 = .ok (.iastore, 1) := dk_79 (dk_at dksX1_appendText_1 1 rfl rfl)
theorem dX1_appendText_26 : decode cX1_appendText 26 = .ok (.dup, 1) := dk_89 (dk_at dksX1_appendText_1 2 rfl rfl)
theorem dX1_appendText_27 : decode cX1_appendText 27 = .ok (.iconst 2, 1) := dk_5 (dk_at dksX1_appendText_1 3 rfl rfl)
theorem dX1_appendText_28 : decode cX1_appendText 28 = .ok (.iload_n 3, 1) := dk_29 (dk_at dksX1_appendText_1 4 rfl rfl)
theorem dX1_appendText_29 : decode cX1_appendText 29 = .ok (.iastore, 1) := dk_79 (dk_at dksX1_appendText_1 5 rfl rfl)
theorem dX1_appendText_30 : decode cX1_appendText 30 = .ok (.dup, 1) := dk_89 (dk_at dksX1_appendText_1 6 rfl rfl)
theorem dX1_appendText_31 : decode cX1_appendText 31 = .ok (.iconst 3, 1) := dk_6 (dk_at dksX1_appendText_1 7 rfl rfl)
theorem dX1_appendText_32 : decode cX1_appendText 32 = .ok (.iload 4, 2) := dk_21 4 (dk_at dksX1_appendText_1 8 rfl rfl)
theorem dX1_appendText_34 : decode cX1_appendText 34 = .ok (.iastore, 1) := dk_79 (dk_at dksX1_appendText_1 10 rfl rfl)
theorem dX1_appendText_35 : decode cX1_appendText 35 = .ok (.dup, 1) := dk_89 (dk_at dksX1_appendText_1 11 rfl rfl)
theorem dX1_appendText_36 : decode cX1_appendText 36 = .ok (.iconst 4, 1) := dk_7 (dk_at dksX1_appendText_1 12 rfl rfl)
theorem dX1_appendText_37 : decode cX1_appendText 37 = .ok (.iload 5, 2) := dk_21 5 (dk_at dksX1_appendText_1 13 rfl rfl)
theorem dX1_appendText_39 : decode cX1_appendText 39 = .ok (.iastore, 1) := dk_79 (dk_at dksX1_appendText_1 15 rfl rfl)
theorem dX1_appendText_40 : decode cX1_appendText 40 = .ok (.astore 6, 2) := dk_58 6 (dk_at dksX1_appendText_1 16 rfl rfl)
theorem dX1_appendText_42 : decode cX1_appendText 42 = .ok (.aload 6, 2) := dk_25 6 (dk_at dksX1_appendText_1 18 rfl rfl)
theorem dX1_appendText_44 : decode cX1_appendText 44 = .ok (.astore 7, 2) := dk_58 7 (dk_at dksX1_appendText_1 20 rfl rfl)
theorem dX1_appendText_46 : decode cX1_appendText 46 = .ok (.aload 7, 2) := dk_25 7 (dk_at dksX1_appendText_1 22 rfl rfl)
theorem dX1_appendText_48 : decode cX1_appendText 48 = .ok (.arraylength, 1) := dk_190 (dk_at dksX1_appendText_2 0 rfl rfl)
theorem dX1_appendText_49 : decode cX1_appendText 49 = .ok (.istore 8, 2) := dk_54 8 (dk_at dksX1_appendText_2 1 rfl rfl)
theorem dX1_appendText_51 : decode cX1_appendText 51 = .ok (.iconst 0, 1) := dk_3 (dk_at dksX1_appendText_2 3 rfl rfl)
theorem dX1_appendText_52 : decode cX1_appendText 52 = .ok (.istore 9, 2) := dk_54 9 (dk_at dksX1_appendText_2 4 rfl rfl)
theorem dX1_appendText_54 : decode cX1_appendText 54 = .ok (.iload 9, 2) := dk_21 9 (dk_at dksX1_appendText_2 6 rfl rfl)
theorem dX1_appendText_56 : decode cX1_appendText 56 = .ok (.iload 8, 2) := dk_21 8 (dk_at dksX1_appendText_2 8 rfl rfl)
theorem dX1_appendText_58 : decode cX1_appendText 58 = .ok (.if_icmp .ge 56, 3) := dk_162 0 56 (dk_at dksX1_appendText_2 10 rfl rfl)
theorem dX1_appendText_61 : decode cX1_appendText 61 = .ok (.aload 7, 2) := dk_25 7 (dk_at dksX1_appendText_2 13 rfl rfl)
theorem dX1_appendText_63 : decode cX1_appendText 63 = .ok (.iload 9, 2) := dk_21 9 (dk_at dksX1_appendText_2 15 rfl rfl)
theorem dX1_appendText_65 : decode cX1_appendText 65 = .ok (.iaload, 1) := dk_46 (dk_at dksX1_appendText_2 17 rfl rfl)
theorem dX1_appendText_66 : decode cX1_appendText 66 = .ok (.istore 10, 2) := dk_54 10 (dk_at dksX1_appendText_2 18 rfl rfl)
theorem dX1_appendText_68 : decode cX1_appendText 68 = .ok (.bipush 24, 2) := dk_16 24 (dk_at dksX1_appendText_2 20 rfl rfl)
theorem dX1_appendText_70 : decode cX1_appendText 70 = .ok (.istore 11, 2) := dk_54 11 (dk_at dksX1_appendText_2 22 rfl rfl)
theorem dX1_appendText_72 : decode cX1_appendText 72 = .ok (.iload 11, 2) := dk_21 11 (dk_at dksX1_appendText_3 0 rfl rfl)
theorem dX1_appendText_74 : decode cX1_appendText 74 = .ok (.ifCond .lt 34, 3) := dk_155 0 34 (dk_at dksX1_appendText_3 2 rfl rfl)
theorem dX1_appendText_77 : decode cX1_appendText 77 = .ok (.aload_n 0, 1) := dk_42 (dk_at dksX1_appendText_3 5 rfl rfl)
theorem dX1_appendText_78 : decode cX1_appendText 78 = .ok (.getfield 14, 3) := dk_180 0 14 (dk_at dksX1_appendText_3 6 rfl rfl)
theorem dX1_appendText_81 : decode cX1_appendText 81 = .ok (.aload_n 0, 1) := dk_42 (dk_at dksX1_appendText_3 9 rfl rfl)
theorem dX1_appendText_82 : decode cX1_appendText 82 = .ok (.getfield 130, 3) := dk_180 0 130 (dk_at dksX1_appendText_3 10 rfl rfl)
theorem dX1_appendText_85 : decode cX1_appendText 85 = .ok (.iload 10, 2) := dk_21 10 (dk_at dksX1_appendText_3 13 rfl rfl)
theorem dX1_appendText_87 : decode cX1_appendText 87 = .ok (.iload 11, 2) := dk_21 11 (dk_at dksX1_appendText_3 15 rfl rfl)
theorem dX1_appendText_89 : decode cX1_appendText 89 = .ok (.ishr, 1) := dk_122 (dk_at dksX1_appendText_3 17 rfl rfl)
theorem dX1_appendText_90 : decode cX1_appendText 90 = .ok (.i2b, 1) := dk_145 (dk_at dksX1_appendText_3 18 rfl rfl)
theorem dX1_appendText_91 : decode cX1_appendText 91 = .ok (.bastore, 1) := dk_84 (dk_at dksX1_appendText_3 19 rfl rfl)
theorem dX1_appendText_92 : decode cX1_appendText 92 = .ok (.aload_n 0, 1) := dk_42 (dk_at dksX1_appendText_3 20 rfl rfl)
theorem dX1_appendText_93 : decode cX1_appendText 93 = .ok (.dup, 1) := dk_89 (dk_at dksX1_appendText_3 21 rfl rfl)
theorem dX1_appendText_94 : decode cX1_appendText 94 = .ok (.getfield 130, 3) := dk_180 0 130 (dk_at dksX1_appendText_4 0 rfl rfl)
theorem dX1_appendText_97 : decode cX1_appendText 97 = .ok (.iconst 1, 1) := dk_4 (dk_at dksX1_appendText_4 3 rfl rfl)
theorem dX1_appendText_98 : decode cX1_appendText 98 = .ok (.iadd, 1) := dk_96 (dk_at dksX1_appendText_4 4 rfl rfl)
theorem dX1_appendText_99 : decode cX1_appendText 99 = .ok (.putfield 130, 3) := dk_181 0 130 (dk_at dksX1_appendText_4 5 rfl rfl)
theorem dX1_appendText_102 : decode cX1_appendText 102 = .ok (.iinc 11 (-8), 3) := dk_132 11 248 (dk_at dksX1_appendText_4 8 rfl rfl)
theorem dX1_appendText_105 : decode cX1_appendText 105 = .ok (.goto (-33), 3) := dk_167 255 223 (dk_at dksX1_appendText_4 11 rfl rfl)
theorem dX1_appendText_108 : decode cX1_appendText 108 = .ok (.iinc 9 1, 3) := dk_132 9 1 (dk_at dksX1_appendText_4 14 rfl rfl)
theorem dX1_appendText_111 : decode cX1_appendText 111 = .ok (.goto (-57), 3) := dk_167 255 199 (dk_at dksX1_appendText_4 17 rfl rfl)
theorem dX1_appendText_114 : decode cX1_appendText 114 = .ok (.aload_n 0, 1) := dk_42 (dk_at dksX1_appendText_4 20 rfl rfl)
theorem dX1_appendText_115 : decode cX1_appendText 115 = .ok (.getfield 130, 3) := dk_180 0 130 (dk_at dksX1_appendText_4 21 rfl rfl)
theorem dX1_appendText_118 : decode cX1_appendText 118 = .ok (.ireturn, 1) := dk_172 (dk_at dksX1_appendText_5 0 rfl rfl)
abbrev cX1_errorCode : ByteArray := prog_1_method_17_code
def yX1_errorCode : MethodName := ⟨RX1, "errorCode", "()I"⟩
theorem dX1_errorCode_0 : decode cX1_errorCode 0 = .ok (.aload_n 0, 1) := by decide +kernel
theorem dX1_errorCode_1 : decode cX1_errorCode 1 = .ok (.getfield 127, 3) := by decide +kernel
theorem dX1_errorCode_4 : decode cX1_errorCode 4 = .ok (.ireturn, 1) := by decide +kernel
abbrev cX1_errorOffset : ByteArray := prog_1_method_18_code
def yX1_errorOffset : MethodName := ⟨RX1, "errorOffset", "()I"⟩
theorem dX1_errorOffset_0 : decode cX1_errorOffset 0 = .ok (.aload_n 0, 1) := by decide +kernel
theorem dX1_errorOffset_1 : decode cX1_errorOffset 1 = .ok (.getfield 25, 3) := by decide +kernel
theorem dX1_errorOffset_4 : decode cX1_errorOffset 4 = .ok (.ireturn, 1) := by decide +kernel
abbrev cX1_kindCount : ByteArray := prog_1_method_19_code
def yX1_kindCount : MethodName := ⟨RX1, "kindCount", "()I"⟩
def dkwX1_kindCount_0 : List UInt8 := [42, 180, 0, 40, 182, 0, 167, 172]
abbrev dktX1_kindCount_0 : List UInt8 := dkwX1_kindCount_0 ++ []
theorem dksX1_kindCount_0 : cX1_kindCount.data.toList.drop 0 = dktX1_kindCount_0 := by decide +kernel
theorem dX1_kindCount_0 : decode cX1_kindCount 0 = .ok (.aload_n 0, 1) := dk_42 (dk_at dksX1_kindCount_0 0 rfl rfl)
theorem dX1_kindCount_1 : decode cX1_kindCount 1 = .ok (.getfield 40, 3) := dk_180 0 40 (dk_at dksX1_kindCount_0 1 rfl rfl)
theorem dX1_kindCount_4 : decode cX1_kindCount 4 = .ok (.invokevirtual 167, 3) := dk_182 0 167 (dk_at dksX1_kindCount_0 4 rfl rfl)
theorem dX1_kindCount_7 : decode cX1_kindCount 7 = .ok (.ireturn, 1) := dk_172 (dk_at dksX1_kindCount_0 7 rfl rfl)
abbrev cX1_scarcestKind : ByteArray := prog_1_method_23_code
def yX1_scarcestKind : MethodName := ⟨RX1, "scarcestKind", "()I"⟩
def dkwX1_scarcestKind_1 : List UInt8 := [180, 0, 40, 27, 182, 0, 174, 162, 0, 7, 28, 167, 0, 4, 27, 60, 132, 2, 1, 167, 255, 217, 27, 172]
abbrev dktX1_scarcestKind_1 : List UInt8 := dkwX1_scarcestKind_1 ++ []
def dkwX1_scarcestKind_0 : List UInt8 := [3, 60, 4, 61, 28, 42, 180, 0, 40, 182, 0, 167, 162, 0, 34, 42, 180, 0, 40, 28, 182, 0, 174, 42]
abbrev dktX1_scarcestKind_0 : List UInt8 := dkwX1_scarcestKind_0 ++ dktX1_scarcestKind_1
theorem dksX1_scarcestKind_0 : cX1_scarcestKind.data.toList.drop 0 = dktX1_scarcestKind_0 := by decide +kernel
theorem dksX1_scarcestKind_1 : cX1_scarcestKind.data.toList.drop 24 = dktX1_scarcestKind_1 := dk_seg dksX1_scarcestKind_0 24 rfl rfl
theorem dX1_scarcestKind_0 : decode cX1_scarcestKind 0 = .ok (.iconst 0, 1) := dk_3 (dk_at dksX1_scarcestKind_0 0 rfl rfl)
theorem dX1_scarcestKind_1 : decode cX1_scarcestKind 1 = .ok (.istore_n 1, 1) := dk_60 (dk_at dksX1_scarcestKind_0 1 rfl rfl)
theorem dX1_scarcestKind_2 : decode cX1_scarcestKind 2 = .ok (.iconst 1, 1) := dk_4 (dk_at dksX1_scarcestKind_0 2 rfl rfl)
theorem dX1_scarcestKind_3 : decode cX1_scarcestKind 3 = .ok (.istore_n 2, 1) := dk_61 (dk_at dksX1_scarcestKind_0 3 rfl rfl)
theorem dX1_scarcestKind_4 : decode cX1_scarcestKind 4 = .ok (.iload_n 2, 1) := dk_28 (dk_at dksX1_scarcestKind_0 4 rfl rfl)
theorem dX1_scarcestKind_5 : decode cX1_scarcestKind 5 = .ok (.aload_n 0, 1) := dk_42 (dk_at dksX1_scarcestKind_0 5 rfl rfl)
theorem dX1_scarcestKind_6 : decode cX1_scarcestKind 6 = .ok (.getfield 40, 3) := dk_180 0 40 (dk_at dksX1_scarcestKind_0 6 rfl rfl)
theorem dX1_scarcestKind_9 : decode cX1_scarcestKind 9 = .ok (.invokevirtual 167, 3) := dk_182 0 167 (dk_at dksX1_scarcestKind_0 9 rfl rfl)
theorem dX1_scarcestKind_12 : decode cX1_scarcestKind 12 = .ok (.if_icmp .ge 34, 3) := dk_162 0 34 (dk_at dksX1_scarcestKind_0 12 rfl rfl)
theorem dX1_scarcestKind_15 : decode cX1_scarcestKind 15 = .ok (.aload_n 0, 1) := dk_42 (dk_at dksX1_scarcestKind_0 15 rfl rfl)
theorem dX1_scarcestKind_16 : decode cX1_scarcestKind 16 = .ok (.getfield 40, 3) := dk_180 0 40 (dk_at dksX1_scarcestKind_0 16 rfl rfl)
theorem dX1_scarcestKind_19 : decode cX1_scarcestKind 19 = .ok (.iload_n 2, 1) := dk_28 (dk_at dksX1_scarcestKind_0 19 rfl rfl)
theorem dX1_scarcestKind_20 : decode cX1_scarcestKind 20 = .ok (.invokevirtual 174, 3) := dk_182 0 174 (dk_at dksX1_scarcestKind_0 20 rfl rfl)
theorem dX1_scarcestKind_23 : decode cX1_scarcestKind 23 = .ok (.aload_n 0, 1) := dk_42 (dk_at dksX1_scarcestKind_0 23 rfl rfl)
theorem dX1_scarcestKind_24 : decode cX1_scarcestKind 24 = .ok (.getfield 40, 3) := dk_180 0 40 (dk_at dksX1_scarcestKind_1 0 rfl rfl)
theorem dX1_scarcestKind_27 : decode cX1_scarcestKind 27 = .ok (.iload_n 1, 1) := dk_27 (dk_at dksX1_scarcestKind_1 3 rfl rfl)
theorem dX1_scarcestKind_28 : decode cX1_scarcestKind 28 = .ok (.invokevirtual 174, 3) := dk_182 0 174 (dk_at dksX1_scarcestKind_1 4 rfl rfl)
theorem dX1_scarcestKind_31 : decode cX1_scarcestKind 31 = .ok (.if_icmp .ge 7, 3) := dk_162 0 7 (dk_at dksX1_scarcestKind_1 7 rfl rfl)
theorem dX1_scarcestKind_34 : decode cX1_scarcestKind 34 = .ok (.iload_n 2, 1) := dk_28 (dk_at dksX1_scarcestKind_1 10 rfl rfl)
theorem dX1_scarcestKind_35 : decode cX1_scarcestKind 35 = .ok (.goto 4, 3) := dk_167 0 4 (dk_at dksX1_scarcestKind_1 11 rfl rfl)
theorem dX1_scarcestKind_38 : decode cX1_scarcestKind 38 = .ok (.iload_n 1, 1) := dk_27 (dk_at dksX1_scarcestKind_1 14 rfl rfl)
theorem dX1_scarcestKind_39 : decode cX1_scarcestKind 39 = .ok (.istore_n 1, 1) := dk_60 (dk_at dksX1_scarcestKind_1 15 rfl rfl)
theorem dX1_scarcestKind_40 : decode cX1_scarcestKind 40 = .ok (.iinc 2 1, 3) := dk_132 2 1 (dk_at dksX1_scarcestKind_1 16 rfl rfl)
theorem dX1_scarcestKind_43 : decode cX1_scarcestKind 43 = .ok (.goto (-39), 3) := dk_167 255 217 (dk_at dksX1_scarcestKind_1 19 rfl rfl)
theorem dX1_scarcestKind_46 : decode cX1_scarcestKind 46 = .ok (.iload_n 1, 1) := dk_27 (dk_at dksX1_scarcestKind_1 22 rfl rfl)
theorem dX1_scarcestKind_47 : decode cX1_scarcestKind 47 = .ok (.ireturn, 1) := dk_172 (dk_at dksX1_scarcestKind_1 23 rfl rfl)
abbrev cX1_utilization : ByteArray := prog_1_method_24_code
def yX1_utilization : MethodName := ⟨RX1, "utilization", "()F"⟩
def dkwX1_utilization_1 : List UInt8 := [182, 0, 185, 134, 27, 134, 110, 174]
abbrev dktX1_utilization_1 : List UInt8 := dkwX1_utilization_1 ++ []
def dkwX1_utilization_0 : List UInt8 := [42, 180, 0, 40, 180, 0, 170, 184, 0, 181, 60, 27, 154, 0, 7, 11, 167, 0, 14, 42, 180, 0, 40]
abbrev dktX1_utilization_0 : List UInt8 := dkwX1_utilization_0 ++ dktX1_utilization_1
theorem dksX1_utilization_0 : cX1_utilization.data.toList.drop 0 = dktX1_utilization_0 := by decide +kernel
theorem dksX1_utilization_1 : cX1_utilization.data.toList.drop 23 = dktX1_utilization_1 := dk_seg dksX1_utilization_0 23 rfl rfl
theorem dX1_utilization_0 : decode cX1_utilization 0 = .ok (.aload_n 0, 1) := dk_42 (dk_at dksX1_utilization_0 0 rfl rfl)
theorem dX1_utilization_1 : decode cX1_utilization 1 = .ok (.getfield 40, 3) := dk_180 0 40 (dk_at dksX1_utilization_0 1 rfl rfl)
theorem dX1_utilization_4 : decode cX1_utilization 4 = .ok (.getfield 170, 3) := dk_180 0 170 (dk_at dksX1_utilization_0 4 rfl rfl)
theorem dX1_utilization_7 : decode cX1_utilization 7 = .ok (.invokestatic 181, 3) := dk_184 0 181 (dk_at dksX1_utilization_0 7 rfl rfl)
theorem dX1_utilization_10 : decode cX1_utilization 10 = .ok (.istore_n 1, 1) := dk_60 (dk_at dksX1_utilization_0 10 rfl rfl)
theorem dX1_utilization_11 : decode cX1_utilization 11 = .ok (.iload_n 1, 1) := dk_27 (dk_at dksX1_utilization_0 11 rfl rfl)
theorem dX1_utilization_12 : decode cX1_utilization 12 = .ok (.ifCond .ne 7, 3) := dk_154 0 7 (dk_at dksX1_utilization_0 12 rfl rfl)
theorem dX1_utilization_15 : decode cX1_utilization 15 = .ok (.fconst 0, 1) := dk_11 (dk_at dksX1_utilization_0 15 rfl rfl)
theorem dX1_utilization_16 : decode cX1_utilization 16 = .ok (.goto 14, 3) := dk_167 0 14 (dk_at dksX1_utilization_0 16 rfl rfl)
theorem dX1_utilization_19 : decode cX1_utilization 19 = .ok (.aload_n 0, 1) := dk_42 (dk_at dksX1_utilization_0 19 rfl rfl)
theorem dX1_utilization_20 : decode cX1_utilization 20 = .ok (.getfield 40, 3) := dk_180 0 40 (dk_at dksX1_utilization_0 20 rfl rfl)
theorem dX1_utilization_23 : decode cX1_utilization 23 = .ok (.invokevirtual 185, 3) := dk_182 0 185 (dk_at dksX1_utilization_1 0 rfl rfl)
theorem dX1_utilization_26 : decode cX1_utilization 26 = .ok (.i2f, 1) := dk_134 (dk_at dksX1_utilization_1 3 rfl rfl)
theorem dX1_utilization_27 : decode cX1_utilization 27 = .ok (.iload_n 1, 1) := dk_27 (dk_at dksX1_utilization_1 4 rfl rfl)
theorem dX1_utilization_28 : decode cX1_utilization 28 = .ok (.i2f, 1) := dk_134 (dk_at dksX1_utilization_1 5 rfl rfl)
theorem dX1_utilization_29 : decode cX1_utilization 29 = .ok (.fdiv, 1) := dk_110 (dk_at dksX1_utilization_1 6 rfl rfl)
theorem dX1_utilization_30 : decode cX1_utilization 30 = .ok (.freturn, 1) := dk_174 (dk_at dksX1_utilization_1 7 rfl rfl)
abbrev cX1_officeCount : ByteArray := prog_1_method_25_code
def yX1_officeCount : MethodName := ⟨RX1, "officeCount", "()I"⟩
def dkwX1_officeCount_0 : List UInt8 := [42, 180, 0, 40, 180, 0, 113, 185, 0, 117, 1, 0, 172]
abbrev dktX1_officeCount_0 : List UInt8 := dkwX1_officeCount_0 ++ []
theorem dksX1_officeCount_0 : cX1_officeCount.data.toList.drop 0 = dktX1_officeCount_0 := by decide +kernel
theorem dX1_officeCount_0 : decode cX1_officeCount 0 = .ok (.aload_n 0, 1) := dk_42 (dk_at dksX1_officeCount_0 0 rfl rfl)
theorem dX1_officeCount_1 : decode cX1_officeCount 1 = .ok (.getfield 40, 3) := dk_180 0 40 (dk_at dksX1_officeCount_0 1 rfl rfl)
theorem dX1_officeCount_4 : decode cX1_officeCount 4 = .ok (.getfield 113, 3) := dk_180 0 113 (dk_at dksX1_officeCount_0 4 rfl rfl)
theorem dX1_officeCount_7 : decode cX1_officeCount 7 = .ok (.invokeinterface 117 1, 5) := by decide +kernel
theorem dX1_officeCount_12 : decode cX1_officeCount 12 = .ok (.ireturn, 1) := dk_172 (dk_at dksX1_officeCount_0 12 rfl rfl)
abbrev cX1_finisherCount : ByteArray := prog_1_method_30_code
def yX1_finisherCount : MethodName := ⟨RX1, "finisherCount", "()I"⟩
def dkwX1_finisherCount_2 : List UInt8 := [182, 0, 204, 184, 0, 221, 96, 61, 167, 255, 224, 28, 172]
abbrev dktX1_finisherCount_2 : List UInt8 := dkwX1_finisherCount_2 ++ []
def dkwX1_finisherCount_1 : List UInt8 := [185, 0, 212, 1, 0, 153, 0, 29, 45, 185, 0, 218, 1, 0, 192, 0, 47, 58, 4, 28, 25, 4, 43]
abbrev dktX1_finisherCount_1 : List UInt8 := dkwX1_finisherCount_1 ++ dktX1_finisherCount_2
def dkwX1_finisherCount_0 : List UInt8 := [42, 180, 0, 40, 182, 0, 201, 76, 3, 61, 42, 180, 0, 40, 180, 0, 113, 185, 0, 208, 1, 0, 78, 45]
abbrev dktX1_finisherCount_0 : List UInt8 := dkwX1_finisherCount_0 ++ dktX1_finisherCount_1
theorem dksX1_finisherCount_0 : cX1_finisherCount.data.toList.drop 0 = dktX1_finisherCount_0 := by decide +kernel
theorem dksX1_finisherCount_1 : cX1_finisherCount.data.toList.drop 24 = dktX1_finisherCount_1 := dk_seg dksX1_finisherCount_0 24 rfl rfl
theorem dksX1_finisherCount_2 : cX1_finisherCount.data.toList.drop 47 = dktX1_finisherCount_2 := dk_seg dksX1_finisherCount_1 23 rfl rfl
theorem dX1_finisherCount_0 : decode cX1_finisherCount 0 = .ok (.aload_n 0, 1) := dk_42 (dk_at dksX1_finisherCount_0 0 rfl rfl)
theorem dX1_finisherCount_1 : decode cX1_finisherCount 1 = .ok (.getfield 40, 3) := dk_180 0 40 (dk_at dksX1_finisherCount_0 1 rfl rfl)
theorem dX1_finisherCount_4 : decode cX1_finisherCount 4 = .ok (.invokevirtual 201, 3) := dk_182 0 201 (dk_at dksX1_finisherCount_0 4 rfl rfl)
theorem dX1_finisherCount_7 : decode cX1_finisherCount 7 = .ok (.astore_n 1, 1) := dk_76 (dk_at dksX1_finisherCount_0 7 rfl rfl)
theorem dX1_finisherCount_8 : decode cX1_finisherCount 8 = .ok (.iconst 0, 1) := dk_3 (dk_at dksX1_finisherCount_0 8 rfl rfl)
theorem dX1_finisherCount_9 : decode cX1_finisherCount 9 = .ok (.istore_n 2, 1) := dk_61 (dk_at dksX1_finisherCount_0 9 rfl rfl)
theorem dX1_finisherCount_10 : decode cX1_finisherCount 10 = .ok (.aload_n 0, 1) := dk_42 (dk_at dksX1_finisherCount_0 10 rfl rfl)
theorem dX1_finisherCount_11 : decode cX1_finisherCount 11 = .ok (.getfield 40, 3) := dk_180 0 40 (dk_at dksX1_finisherCount_0 11 rfl rfl)
theorem dX1_finisherCount_14 : decode cX1_finisherCount 14 = .ok (.getfield 113, 3) := dk_180 0 113 (dk_at dksX1_finisherCount_0 14 rfl rfl)
theorem dX1_finisherCount_17 : decode cX1_finisherCount 17 = .ok (.invokeinterface 208 1, 5) := by decide +kernel
theorem dX1_finisherCount_22 : decode cX1_finisherCount 22 = .ok (.astore_n 3, 1) := dk_78 (dk_at dksX1_finisherCount_0 22 rfl rfl)
theorem dX1_finisherCount_23 : decode cX1_finisherCount 23 = .ok (.aload_n 3, 1) := dk_45 (dk_at dksX1_finisherCount_0 23 rfl rfl)
theorem dX1_finisherCount_24 : decode cX1_finisherCount 24 = .ok (.invokeinterface 212 1, 5) := by decide +kernel
theorem dX1_finisherCount_29 : decode cX1_finisherCount 29 = .ok (.ifCond .eq 29, 3) := dk_153 0 29 (dk_at dksX1_finisherCount_1 5 rfl rfl)
theorem dX1_finisherCount_32 : decode cX1_finisherCount 32 = .ok (.aload_n 3, 1) := dk_45 (dk_at dksX1_finisherCount_1 8 rfl rfl)
theorem dX1_finisherCount_33 : decode cX1_finisherCount 33 = .ok (.invokeinterface 218 1, 5) := by decide +kernel
theorem dX1_finisherCount_38 : decode cX1_finisherCount 38 = .ok (.checkcast 47, 3) := dk_192 0 47 (dk_at dksX1_finisherCount_1 14 rfl rfl)
theorem dX1_finisherCount_41 : decode cX1_finisherCount 41 = .ok (.astore 4, 2) := dk_58 4 (dk_at dksX1_finisherCount_1 17 rfl rfl)
theorem dX1_finisherCount_43 : decode cX1_finisherCount 43 = .ok (.iload_n 2, 1) := dk_28 (dk_at dksX1_finisherCount_1 19 rfl rfl)
theorem dX1_finisherCount_44 : decode cX1_finisherCount 44 = .ok (.aload 4, 2) := dk_25 4 (dk_at dksX1_finisherCount_1 20 rfl rfl)
theorem dX1_finisherCount_46 : decode cX1_finisherCount 46 = .ok (.aload_n 1, 1) := dk_43 (dk_at dksX1_finisherCount_1 22 rfl rfl)
theorem dX1_finisherCount_47 : decode cX1_finisherCount 47 = .ok (.invokevirtual 204, 3) := dk_182 0 204 (dk_at dksX1_finisherCount_2 0 rfl rfl)
theorem dX1_finisherCount_50 : decode cX1_finisherCount 50 = .ok (.invokestatic 221, 3) := dk_184 0 221 (dk_at dksX1_finisherCount_2 3 rfl rfl)
theorem dX1_finisherCount_53 : decode cX1_finisherCount 53 = .ok (.iadd, 1) := dk_96 (dk_at dksX1_finisherCount_2 6 rfl rfl)
theorem dX1_finisherCount_54 : decode cX1_finisherCount 54 = .ok (.istore_n 2, 1) := dk_61 (dk_at dksX1_finisherCount_2 7 rfl rfl)
theorem dX1_finisherCount_55 : decode cX1_finisherCount 55 = .ok (.goto (-32), 3) := dk_167 255 224 (dk_at dksX1_finisherCount_2 8 rfl rfl)
theorem dX1_finisherCount_58 : decode cX1_finisherCount 58 = .ok (.iload_n 2, 1) := dk_28 (dk_at dksX1_finisherCount_2 11 rfl rfl)
theorem dX1_finisherCount_59 : decode cX1_finisherCount 59 = .ok (.ireturn, 1) := dk_172 (dk_at dksX1_finisherCount_2 12 rfl rfl)
abbrev cX1_bit : ByteArray := prog_1_method_2_code
def yX1_bit : MethodName := ⟨RX1, "bit", "(Z)I"⟩
def dkwX1_bit_0 : List UInt8 := [26, 153, 0, 7, 4, 167, 0, 4, 3, 172]
abbrev dktX1_bit_0 : List UInt8 := dkwX1_bit_0 ++ []
theorem dksX1_bit_0 : cX1_bit.data.toList.drop 0 = dktX1_bit_0 := by decide +kernel
theorem dX1_bit_0 : decode cX1_bit 0 = .ok (.iload_n 0, 1) := dk_26 (dk_at dksX1_bit_0 0 rfl rfl)
theorem dX1_bit_1 : decode cX1_bit 1 = .ok (.ifCond .eq 7, 3) := dk_153 0 7 (dk_at dksX1_bit_0 1 rfl rfl)
theorem dX1_bit_4 : decode cX1_bit 4 = .ok (.iconst 1, 1) := dk_4 (dk_at dksX1_bit_0 4 rfl rfl)
theorem dX1_bit_5 : decode cX1_bit 5 = .ok (.goto 4, 3) := dk_167 0 4 (dk_at dksX1_bit_0 5 rfl rfl)
theorem dX1_bit_8 : decode cX1_bit 8 = .ok (.iconst 0, 1) := dk_3 (dk_at dksX1_bit_0 8 rfl rfl)
theorem dX1_bit_9 : decode cX1_bit 9 = .ok (.ireturn, 1) := dk_172 (dk_at dksX1_bit_0 9 rfl rfl)
abbrev cX1_greatestHolder : ByteArray := prog_1_method_31_code
def yX1_greatestHolder : MethodName := ⟨RX1, "greatestHolder", "()I"⟩
def dkwX1_greatestHolder_2 : List UInt8 := [164, 0, 7, 28, 167, 0, 4, 27, 60, 132, 2, 1, 167, 255, 200, 27, 172]
abbrev dktX1_greatestHolder_2 : List UInt8 := dkwX1_greatestHolder_2 ++ []
def dkwX1_greatestHolder_1 : List UInt8 := [28, 182, 0, 99, 180, 0, 195, 184, 0, 181, 42, 180, 0, 40, 27, 182, 0, 99, 180, 0, 195, 184, 0, 181]
abbrev dktX1_greatestHolder_1 : List UInt8 := dkwX1_greatestHolder_1 ++ dktX1_greatestHolder_2
def dkwX1_greatestHolder_0 : List UInt8 := [3, 60, 4, 61, 28, 42, 180, 0, 40, 180, 0, 113, 185, 0, 117, 1, 0, 162, 0, 46, 42, 180, 0, 40]
abbrev dktX1_greatestHolder_0 : List UInt8 := dkwX1_greatestHolder_0 ++ dktX1_greatestHolder_1
theorem dksX1_greatestHolder_0 : cX1_greatestHolder.data.toList.drop 0 = dktX1_greatestHolder_0 := by decide +kernel
theorem dksX1_greatestHolder_1 : cX1_greatestHolder.data.toList.drop 24 = dktX1_greatestHolder_1 := dk_seg dksX1_greatestHolder_0 24 rfl rfl
theorem dksX1_greatestHolder_2 : cX1_greatestHolder.data.toList.drop 48 = dktX1_greatestHolder_2 := dk_seg dksX1_greatestHolder_1 24 rfl rfl
theorem dX1_greatestHolder_0 : decode cX1_greatestHolder 0 = .ok (.iconst 0, 1) := dk_3 (dk_at dksX1_greatestHolder_0 0 rfl rfl)
theorem dX1_greatestHolder_1 : decode cX1_greatestHolder 1 = .ok (.istore_n 1, 1) := dk_60 (dk_at dksX1_greatestHolder_0 1 rfl rfl)
theorem dX1_greatestHolder_2 : decode cX1_greatestHolder 2 = .ok (.iconst 1, 1) := dk_4 (dk_at dksX1_greatestHolder_0 2 rfl rfl)
theorem dX1_greatestHolder_3 : decode cX1_greatestHolder 3 = .ok (.istore_n 2, 1) := dk_61 (dk_at dksX1_greatestHolder_0 3 rfl rfl)
theorem dX1_greatestHolder_4 : decode cX1_greatestHolder 4 = .ok (.iload_n 2, 1) := dk_28 (dk_at dksX1_greatestHolder_0 4 rfl rfl)
theorem dX1_greatestHolder_5 : decode cX1_greatestHolder 5 = .ok (.aload_n 0, 1) := dk_42 (dk_at dksX1_greatestHolder_0 5 rfl rfl)
theorem dX1_greatestHolder_6 : decode cX1_greatestHolder 6 = .ok (.getfield 40, 3) := dk_180 0 40 (dk_at dksX1_greatestHolder_0 6 rfl rfl)
theorem dX1_greatestHolder_9 : decode cX1_greatestHolder 9 = .ok (.getfield 113, 3) := dk_180 0 113 (dk_at dksX1_greatestHolder_0 9 rfl rfl)
theorem dX1_greatestHolder_12 : decode cX1_greatestHolder 12 = .ok (.invokeinterface 117 1, 5) := by decide +kernel
theorem dX1_greatestHolder_17 : decode cX1_greatestHolder 17 = .ok (.if_icmp .ge 46, 3) := dk_162 0 46 (dk_at dksX1_greatestHolder_0 17 rfl rfl)
theorem dX1_greatestHolder_20 : decode cX1_greatestHolder 20 = .ok (.aload_n 0, 1) := dk_42 (dk_at dksX1_greatestHolder_0 20 rfl rfl)
theorem dX1_greatestHolder_21 : decode cX1_greatestHolder 21 = .ok (.getfield 40, 3) := dk_180 0 40 (dk_at dksX1_greatestHolder_0 21 rfl rfl)
theorem dX1_greatestHolder_24 : decode cX1_greatestHolder 24 = .ok (.iload_n 2, 1) := dk_28 (dk_at dksX1_greatestHolder_1 0 rfl rfl)
theorem dX1_greatestHolder_25 : decode cX1_greatestHolder 25 = .ok (.invokevirtual 99, 3) := dk_182 0 99 (dk_at dksX1_greatestHolder_1 1 rfl rfl)
theorem dX1_greatestHolder_28 : decode cX1_greatestHolder 28 = .ok (.getfield 195, 3) := dk_180 0 195 (dk_at dksX1_greatestHolder_1 4 rfl rfl)
theorem dX1_greatestHolder_31 : decode cX1_greatestHolder 31 = .ok (.invokestatic 181, 3) := dk_184 0 181 (dk_at dksX1_greatestHolder_1 7 rfl rfl)
theorem dX1_greatestHolder_34 : decode cX1_greatestHolder 34 = .ok (.aload_n 0, 1) := dk_42 (dk_at dksX1_greatestHolder_1 10 rfl rfl)
theorem dX1_greatestHolder_35 : decode cX1_greatestHolder 35 = .ok (.getfield 40, 3) := dk_180 0 40 (dk_at dksX1_greatestHolder_1 11 rfl rfl)
theorem dX1_greatestHolder_38 : decode cX1_greatestHolder 38 = .ok (.iload_n 1, 1) := dk_27 (dk_at dksX1_greatestHolder_1 14 rfl rfl)
theorem dX1_greatestHolder_39 : decode cX1_greatestHolder 39 = .ok (.invokevirtual 99, 3) := dk_182 0 99 (dk_at dksX1_greatestHolder_1 15 rfl rfl)
theorem dX1_greatestHolder_42 : decode cX1_greatestHolder 42 = .ok (.getfield 195, 3) := dk_180 0 195 (dk_at dksX1_greatestHolder_1 18 rfl rfl)
theorem dX1_greatestHolder_45 : decode cX1_greatestHolder 45 = .ok (.invokestatic 181, 3) := dk_184 0 181 (dk_at dksX1_greatestHolder_1 21 rfl rfl)
theorem dX1_greatestHolder_48 : decode cX1_greatestHolder 48 = .ok (.if_icmp .le 7, 3) := dk_164 0 7 (dk_at dksX1_greatestHolder_2 0 rfl rfl)
theorem dX1_greatestHolder_51 : decode cX1_greatestHolder 51 = .ok (.iload_n 2, 1) := dk_28 (dk_at dksX1_greatestHolder_2 3 rfl rfl)
theorem dX1_greatestHolder_52 : decode cX1_greatestHolder 52 = .ok (.goto 4, 3) := dk_167 0 4 (dk_at dksX1_greatestHolder_2 4 rfl rfl)
theorem dX1_greatestHolder_55 : decode cX1_greatestHolder 55 = .ok (.iload_n 1, 1) := dk_27 (dk_at dksX1_greatestHolder_2 7 rfl rfl)
theorem dX1_greatestHolder_56 : decode cX1_greatestHolder 56 = .ok (.istore_n 1, 1) := dk_60 (dk_at dksX1_greatestHolder_2 8 rfl rfl)
theorem dX1_greatestHolder_57 : decode cX1_greatestHolder 57 = .ok (.iinc 2 1, 3) := dk_132 2 1 (dk_at dksX1_greatestHolder_2 9 rfl rfl)
theorem dX1_greatestHolder_60 : decode cX1_greatestHolder 60 = .ok (.goto (-56), 3) := dk_167 255 200 (dk_at dksX1_greatestHolder_2 12 rfl rfl)
theorem dX1_greatestHolder_63 : decode cX1_greatestHolder 63 = .ok (.iload_n 1, 1) := dk_27 (dk_at dksX1_greatestHolder_2 15 rfl rfl)
theorem dX1_greatestHolder_64 : decode cX1_greatestHolder 64 = .ok (.ireturn, 1) := dk_172 (dk_at dksX1_greatestHolder_2 16 rfl rfl)
abbrev cX1_meanNeed : ByteArray := prog_1_method_32_code
def yX1_meanNeed : MethodName := ⟨RX1, "meanNeed", "()D"⟩
def dkwX1_meanNeed_2 : List UInt8 := [180, 0, 40, 180, 0, 113, 185, 0, 117, 1, 0, 135, 111, 175]
abbrev dktX1_meanNeed_2 : List UInt8 := dkwX1_meanNeed_2 ++ []
def dkwX1_meanNeed_1 : List UInt8 := [44, 185, 0, 218, 1, 0, 192, 0, 47, 78, 27, 45, 182, 0, 225, 96, 60, 167, 255, 230, 27, 135, 42]
abbrev dktX1_meanNeed_1 : List UInt8 := dkwX1_meanNeed_1 ++ dktX1_meanNeed_2
def dkwX1_meanNeed_0 : List UInt8 := [3, 60, 42, 180, 0, 40, 180, 0, 113, 185, 0, 208, 1, 0, 77, 44, 185, 0, 212, 1, 0, 153, 0, 23]
abbrev dktX1_meanNeed_0 : List UInt8 := dkwX1_meanNeed_0 ++ dktX1_meanNeed_1
theorem dksX1_meanNeed_0 : cX1_meanNeed.data.toList.drop 0 = dktX1_meanNeed_0 := by decide +kernel
theorem dksX1_meanNeed_1 : cX1_meanNeed.data.toList.drop 24 = dktX1_meanNeed_1 := dk_seg dksX1_meanNeed_0 24 rfl rfl
theorem dksX1_meanNeed_2 : cX1_meanNeed.data.toList.drop 47 = dktX1_meanNeed_2 := dk_seg dksX1_meanNeed_1 23 rfl rfl
theorem dX1_meanNeed_0 : decode cX1_meanNeed 0 = .ok (.iconst 0, 1) := dk_3 (dk_at dksX1_meanNeed_0 0 rfl rfl)
theorem dX1_meanNeed_1 : decode cX1_meanNeed 1 = .ok (.istore_n 1, 1) := dk_60 (dk_at dksX1_meanNeed_0 1 rfl rfl)
theorem dX1_meanNeed_2 : decode cX1_meanNeed 2 = .ok (.aload_n 0, 1) := dk_42 (dk_at dksX1_meanNeed_0 2 rfl rfl)
theorem dX1_meanNeed_3 : decode cX1_meanNeed 3 = .ok (.getfield 40, 3) := dk_180 0 40 (dk_at dksX1_meanNeed_0 3 rfl rfl)
theorem dX1_meanNeed_6 : decode cX1_meanNeed 6 = .ok (.getfield 113, 3) := dk_180 0 113 (dk_at dksX1_meanNeed_0 6 rfl rfl)
theorem dX1_meanNeed_9 : decode cX1_meanNeed 9 = .ok (.invokeinterface 208 1, 5) := by decide +kernel
theorem dX1_meanNeed_14 : decode cX1_meanNeed 14 = .ok (.astore_n 2, 1) := dk_77 (dk_at dksX1_meanNeed_0 14 rfl rfl)
theorem dX1_meanNeed_15 : decode cX1_meanNeed 15 = .ok (.aload_n 2, 1) := dk_44 (dk_at dksX1_meanNeed_0 15 rfl rfl)
theorem dX1_meanNeed_16 : decode cX1_meanNeed 16 = .ok (.invokeinterface 212 1, 5) := by decide +kernel
theorem dX1_meanNeed_21 : decode cX1_meanNeed 21 = .ok (.ifCond .eq 23, 3) := dk_153 0 23 (dk_at dksX1_meanNeed_0 21 rfl rfl)
theorem dX1_meanNeed_24 : decode cX1_meanNeed 24 = .ok (.aload_n 2, 1) := dk_44 (dk_at dksX1_meanNeed_1 0 rfl rfl)
theorem dX1_meanNeed_25 : decode cX1_meanNeed 25 = .ok (.invokeinterface 218 1, 5) := by decide +kernel
theorem dX1_meanNeed_30 : decode cX1_meanNeed 30 = .ok (.checkcast 47, 3) := dk_192 0 47 (dk_at dksX1_meanNeed_1 6 rfl rfl)
theorem dX1_meanNeed_33 : decode cX1_meanNeed 33 = .ok (.astore_n 3, 1) := dk_78 (dk_at dksX1_meanNeed_1 9 rfl rfl)
theorem dX1_meanNeed_34 : decode cX1_meanNeed 34 = .ok (.iload_n 1, 1) := dk_27 (dk_at dksX1_meanNeed_1 10 rfl rfl)
theorem dX1_meanNeed_35 : decode cX1_meanNeed 35 = .ok (.aload_n 3, 1) := dk_45 (dk_at dksX1_meanNeed_1 11 rfl rfl)
theorem dX1_meanNeed_36 : decode cX1_meanNeed 36 = .ok (.invokevirtual 225, 3) := dk_182 0 225 (dk_at dksX1_meanNeed_1 12 rfl rfl)
theorem dX1_meanNeed_39 : decode cX1_meanNeed 39 = .ok (.iadd, 1) := dk_96 (dk_at dksX1_meanNeed_1 15 rfl rfl)
theorem dX1_meanNeed_40 : decode cX1_meanNeed 40 = .ok (.istore_n 1, 1) := dk_60 (dk_at dksX1_meanNeed_1 16 rfl rfl)
theorem dX1_meanNeed_41 : decode cX1_meanNeed 41 = .ok (.goto (-26), 3) := dk_167 255 230 (dk_at dksX1_meanNeed_1 17 rfl rfl)
theorem dX1_meanNeed_44 : decode cX1_meanNeed 44 = .ok (.iload_n 1, 1) := dk_27 (dk_at dksX1_meanNeed_1 20 rfl rfl)
theorem dX1_meanNeed_45 : decode cX1_meanNeed 45 = .ok (.i2d, 1) := dk_135 (dk_at dksX1_meanNeed_1 21 rfl rfl)
theorem dX1_meanNeed_46 : decode cX1_meanNeed 46 = .ok (.aload_n 0, 1) := dk_42 (dk_at dksX1_meanNeed_1 22 rfl rfl)
theorem dX1_meanNeed_47 : decode cX1_meanNeed 47 = .ok (.getfield 40, 3) := dk_180 0 40 (dk_at dksX1_meanNeed_2 0 rfl rfl)
theorem dX1_meanNeed_50 : decode cX1_meanNeed 50 = .ok (.getfield 113, 3) := dk_180 0 113 (dk_at dksX1_meanNeed_2 3 rfl rfl)
theorem dX1_meanNeed_53 : decode cX1_meanNeed 53 = .ok (.invokeinterface 117 1, 5) := by decide +kernel
theorem dX1_meanNeed_58 : decode cX1_meanNeed 58 = .ok (.i2d, 1) := dk_135 (dk_at dksX1_meanNeed_2 11 rfl rfl)
theorem dX1_meanNeed_59 : decode cX1_meanNeed 59 = .ok (.ddiv, 1) := dk_111 (dk_at dksX1_meanNeed_2 12 rfl rfl)
theorem dX1_meanNeed_60 : decode cX1_meanNeed 60 = .ok (.dreturn, 1) := dk_175 (dk_at dksX1_meanNeed_2 13 rfl rfl)
abbrev cX1_waitingCount : ByteArray := prog_1_method_33_code
def yX1_waitingCount : MethodName := ⟨RX1, "waitingCount", "()I"⟩
def dkwX1_waitingCount_0 : List UInt8 := [42, 180, 0, 40, 180, 0, 228, 185, 0, 117, 1, 0, 172]
abbrev dktX1_waitingCount_0 : List UInt8 := dkwX1_waitingCount_0 ++ []
theorem dksX1_waitingCount_0 : cX1_waitingCount.data.toList.drop 0 = dktX1_waitingCount_0 := by decide +kernel
theorem dX1_waitingCount_0 : decode cX1_waitingCount 0 = .ok (.aload_n 0, 1) := dk_42 (dk_at dksX1_waitingCount_0 0 rfl rfl)
theorem dX1_waitingCount_1 : decode cX1_waitingCount 1 = .ok (.getfield 40, 3) := dk_180 0 40 (dk_at dksX1_waitingCount_0 1 rfl rfl)
theorem dX1_waitingCount_4 : decode cX1_waitingCount 4 = .ok (.getfield 228, 3) := dk_180 0 228 (dk_at dksX1_waitingCount_0 4 rfl rfl)
theorem dX1_waitingCount_7 : decode cX1_waitingCount 7 = .ok (.invokeinterface 117 1, 5) := by decide +kernel
theorem dX1_waitingCount_12 : decode cX1_waitingCount 12 = .ok (.ireturn, 1) := dk_172 (dk_at dksX1_waitingCount_0 12 rfl rfl)
abbrev cX1_waitingOffice : ByteArray := prog_1_method_34_code
def yX1_waitingOffice : MethodName := ⟨RX1, "waitingOffice", "(I)I"⟩
def dkwX1_waitingOffice_1 : List UInt8 := [180, 0, 40, 180, 0, 228, 27, 185, 0, 231, 2, 0, 192, 0, 234, 182, 0, 236, 167, 0, 4, 2, 172]
abbrev dktX1_waitingOffice_1 : List UInt8 := dkwX1_waitingOffice_1 ++ []
def dkwX1_waitingOffice_0 : List UInt8 := [27, 3, 42, 180, 0, 40, 180, 0, 228, 185, 0, 117, 1, 0, 4, 100, 184, 0, 120, 153, 0, 25, 42]
abbrev dktX1_waitingOffice_0 : List UInt8 := dkwX1_waitingOffice_0 ++ dktX1_waitingOffice_1
theorem dksX1_waitingOffice_0 : cX1_waitingOffice.data.toList.drop 0 = dktX1_waitingOffice_0 := by decide +kernel
theorem dksX1_waitingOffice_1 : cX1_waitingOffice.data.toList.drop 23 = dktX1_waitingOffice_1 := dk_seg dksX1_waitingOffice_0 23 rfl rfl
theorem dX1_waitingOffice_0 : decode cX1_waitingOffice 0 = .ok (.iload_n 1, 1) := dk_27 (dk_at dksX1_waitingOffice_0 0 rfl rfl)
theorem dX1_waitingOffice_1 : decode cX1_waitingOffice 1 = .ok (.iconst 0, 1) := dk_3 (dk_at dksX1_waitingOffice_0 1 rfl rfl)
theorem dX1_waitingOffice_2 : decode cX1_waitingOffice 2 = .ok (.aload_n 0, 1) := dk_42 (dk_at dksX1_waitingOffice_0 2 rfl rfl)
theorem dX1_waitingOffice_3 : decode cX1_waitingOffice 3 = .ok (.getfield 40, 3) := dk_180 0 40 (dk_at dksX1_waitingOffice_0 3 rfl rfl)
theorem dX1_waitingOffice_6 : decode cX1_waitingOffice 6 = .ok (.getfield 228, 3) := dk_180 0 228 (dk_at dksX1_waitingOffice_0 6 rfl rfl)
theorem dX1_waitingOffice_9 : decode cX1_waitingOffice 9 = .ok (.invokeinterface 117 1, 5) := by decide +kernel
theorem dX1_waitingOffice_14 : decode cX1_waitingOffice 14 = .ok (.iconst 1, 1) := dk_4 (dk_at dksX1_waitingOffice_0 14 rfl rfl)
theorem dX1_waitingOffice_15 : decode cX1_waitingOffice 15 = .ok (.isub, 1) := dk_100 (dk_at dksX1_waitingOffice_0 15 rfl rfl)
theorem dX1_waitingOffice_16 : decode cX1_waitingOffice 16 = .ok (.invokestatic 120, 3) := dk_184 0 120 (dk_at dksX1_waitingOffice_0 16 rfl rfl)
theorem dX1_waitingOffice_19 : decode cX1_waitingOffice 19 = .ok (.ifCond .eq 25, 3) := dk_153 0 25 (dk_at dksX1_waitingOffice_0 19 rfl rfl)
theorem dX1_waitingOffice_22 : decode cX1_waitingOffice 22 = .ok (.aload_n 0, 1) := dk_42 (dk_at dksX1_waitingOffice_0 22 rfl rfl)
theorem dX1_waitingOffice_23 : decode cX1_waitingOffice 23 = .ok (.getfield 40, 3) := dk_180 0 40 (dk_at dksX1_waitingOffice_1 0 rfl rfl)
theorem dX1_waitingOffice_26 : decode cX1_waitingOffice 26 = .ok (.getfield 228, 3) := dk_180 0 228 (dk_at dksX1_waitingOffice_1 3 rfl rfl)
theorem dX1_waitingOffice_29 : decode cX1_waitingOffice 29 = .ok (.iload_n 1, 1) := dk_27 (dk_at dksX1_waitingOffice_1 6 rfl rfl)
theorem dX1_waitingOffice_30 : decode cX1_waitingOffice 30 = .ok (.invokeinterface 231 2, 5) := by decide +kernel
theorem dX1_waitingOffice_35 : decode cX1_waitingOffice 35 = .ok (.checkcast 234, 3) := dk_192 0 234 (dk_at dksX1_waitingOffice_1 12 rfl rfl)
theorem dX1_waitingOffice_38 : decode cX1_waitingOffice 38 = .ok (.invokevirtual 236, 3) := dk_182 0 236 (dk_at dksX1_waitingOffice_1 15 rfl rfl)
theorem dX1_waitingOffice_41 : decode cX1_waitingOffice 41 = .ok (.goto 4, 3) := dk_167 0 4 (dk_at dksX1_waitingOffice_1 18 rfl rfl)
theorem dX1_waitingOffice_44 : decode cX1_waitingOffice 44 = .ok (.iconst (-1), 1) := dk_2 (dk_at dksX1_waitingOffice_1 21 rfl rfl)
theorem dX1_waitingOffice_45 : decode cX1_waitingOffice 45 = .ok (.ireturn, 1) := dk_172 (dk_at dksX1_waitingOffice_1 22 rfl rfl)
abbrev cX1_inRange : ByteArray := prog_1_method_1_code
def yX1_inRange : MethodName := ⟨RX1, "inRange", "(III)Z"⟩
def dkwX1_inRange_0 : List UInt8 := [27, 26, 163, 0, 12, 26, 28, 163, 0, 7, 4, 167, 0, 4, 3, 172]
abbrev dktX1_inRange_0 : List UInt8 := dkwX1_inRange_0 ++ []
theorem dksX1_inRange_0 : cX1_inRange.data.toList.drop 0 = dktX1_inRange_0 := by decide +kernel
theorem dX1_inRange_0 : decode cX1_inRange 0 = .ok (.iload_n 1, 1) := dk_27 (dk_at dksX1_inRange_0 0 rfl rfl)
theorem dX1_inRange_1 : decode cX1_inRange 1 = .ok (.iload_n 0, 1) := dk_26 (dk_at dksX1_inRange_0 1 rfl rfl)
theorem dX1_inRange_2 : decode cX1_inRange 2 = .ok (.if_icmp .gt 12, 3) := dk_163 0 12 (dk_at dksX1_inRange_0 2 rfl rfl)
theorem dX1_inRange_5 : decode cX1_inRange 5 = .ok (.iload_n 0, 1) := dk_26 (dk_at dksX1_inRange_0 5 rfl rfl)
theorem dX1_inRange_6 : decode cX1_inRange 6 = .ok (.iload_n 2, 1) := dk_28 (dk_at dksX1_inRange_0 6 rfl rfl)
theorem dX1_inRange_7 : decode cX1_inRange 7 = .ok (.if_icmp .gt 7, 3) := dk_163 0 7 (dk_at dksX1_inRange_0 7 rfl rfl)
theorem dX1_inRange_10 : decode cX1_inRange 10 = .ok (.iconst 1, 1) := dk_4 (dk_at dksX1_inRange_0 10 rfl rfl)
theorem dX1_inRange_11 : decode cX1_inRange 11 = .ok (.goto 4, 3) := dk_167 0 4 (dk_at dksX1_inRange_0 11 rfl rfl)
theorem dX1_inRange_14 : decode cX1_inRange 14 = .ok (.iconst 0, 1) := dk_3 (dk_at dksX1_inRange_0 14 rfl rfl)
theorem dX1_inRange_15 : decode cX1_inRange 15 = .ok (.ireturn, 1) := dk_172 (dk_at dksX1_inRange_0 15 rfl rfl)
abbrev cX1_sequenceCount : ByteArray := prog_1_method_41_code
def yX1_sequenceCount : MethodName := ⟨RX1, "sequenceCount", "()I"⟩
def dkwX1_sequenceCount_0 : List UInt8 := [187, 1, 7, 89, 42, 180, 0, 40, 183, 1, 9, 182, 1, 11, 172]
abbrev dktX1_sequenceCount_0 : List UInt8 := dkwX1_sequenceCount_0 ++ []
theorem dksX1_sequenceCount_0 : cX1_sequenceCount.data.toList.drop 0 = dktX1_sequenceCount_0 := by decide +kernel
theorem dX1_sequenceCount_0 : decode cX1_sequenceCount 0 = .ok (.new 263, 3) := dk_187 1 7 (dk_at dksX1_sequenceCount_0 0 rfl rfl)
theorem dX1_sequenceCount_3 : decode cX1_sequenceCount 3 = .ok (.dup, 1) := dk_89 (dk_at dksX1_sequenceCount_0 3 rfl rfl)
theorem dX1_sequenceCount_4 : decode cX1_sequenceCount 4 = .ok (.aload_n 0, 1) := dk_42 (dk_at dksX1_sequenceCount_0 4 rfl rfl)
theorem dX1_sequenceCount_5 : decode cX1_sequenceCount 5 = .ok (.getfield 40, 3) := dk_180 0 40 (dk_at dksX1_sequenceCount_0 5 rfl rfl)
theorem dX1_sequenceCount_8 : decode cX1_sequenceCount 8 = .ok (.invokespecial 265, 3) := dk_183 1 9 (dk_at dksX1_sequenceCount_0 8 rfl rfl)
theorem dX1_sequenceCount_11 : decode cX1_sequenceCount 11 = .ok (.invokevirtual 267, 3) := dk_182 1 11 (dk_at dksX1_sequenceCount_0 11 rfl rfl)
theorem dX1_sequenceCount_14 : decode cX1_sequenceCount 14 = .ok (.ireturn, 1) := dk_172 (dk_at dksX1_sequenceCount_0 14 rfl rfl)
abbrev cX1_grantedRequests : ByteArray := prog_1_method_47_code
def yX1_grantedRequests : MethodName := ⟨RX1, "grantedRequests", "()I"⟩
def dkwX1_grantedRequests_0 : List UInt8 := [42, 180, 0, 40, 180, 1, 30, 172]
abbrev dktX1_grantedRequests_0 : List UInt8 := dkwX1_grantedRequests_0 ++ []
theorem dksX1_grantedRequests_0 : cX1_grantedRequests.data.toList.drop 0 = dktX1_grantedRequests_0 := by decide +kernel
theorem dX1_grantedRequests_0 : decode cX1_grantedRequests 0 = .ok (.aload_n 0, 1) := dk_42 (dk_at dksX1_grantedRequests_0 0 rfl rfl)
theorem dX1_grantedRequests_1 : decode cX1_grantedRequests 1 = .ok (.getfield 40, 3) := dk_180 0 40 (dk_at dksX1_grantedRequests_0 1 rfl rfl)
theorem dX1_grantedRequests_4 : decode cX1_grantedRequests 4 = .ok (.getfield 286, 3) := dk_180 1 30 (dk_at dksX1_grantedRequests_0 4 rfl rfl)
theorem dX1_grantedRequests_7 : decode cX1_grantedRequests 7 = .ok (.ireturn, 1) := dk_172 (dk_at dksX1_grantedRequests_0 7 rfl rfl)
abbrev cX1_delayedRequests : ByteArray := prog_1_method_48_code
def yX1_delayedRequests : MethodName := ⟨RX1, "delayedRequests", "()I"⟩
def dkwX1_delayedRequests_0 : List UInt8 := [42, 180, 0, 40, 180, 1, 33, 172]
abbrev dktX1_delayedRequests_0 : List UInt8 := dkwX1_delayedRequests_0 ++ []
theorem dksX1_delayedRequests_0 : cX1_delayedRequests.data.toList.drop 0 = dktX1_delayedRequests_0 := by decide +kernel
theorem dX1_delayedRequests_0 : decode cX1_delayedRequests 0 = .ok (.aload_n 0, 1) := dk_42 (dk_at dksX1_delayedRequests_0 0 rfl rfl)
theorem dX1_delayedRequests_1 : decode cX1_delayedRequests 1 = .ok (.getfield 40, 3) := dk_180 0 40 (dk_at dksX1_delayedRequests_0 1 rfl rfl)
theorem dX1_delayedRequests_4 : decode cX1_delayedRequests 4 = .ok (.getfield 289, 3) := dk_180 1 33 (dk_at dksX1_delayedRequests_0 4 rfl rfl)
theorem dX1_delayedRequests_7 : decode cX1_delayedRequests 7 = .ok (.ireturn, 1) := dk_172 (dk_at dksX1_delayedRequests_0 7 rfl rfl)
abbrev cX1_unsafeRequests : ByteArray := prog_1_method_49_code
def yX1_unsafeRequests : MethodName := ⟨RX1, "unsafeRequests", "()I"⟩
def dkwX1_unsafeRequests_0 : List UInt8 := [42, 180, 0, 40, 180, 1, 36, 172]
abbrev dktX1_unsafeRequests_0 : List UInt8 := dkwX1_unsafeRequests_0 ++ []
theorem dksX1_unsafeRequests_0 : cX1_unsafeRequests.data.toList.drop 0 = dktX1_unsafeRequests_0 := by decide +kernel
theorem dX1_unsafeRequests_0 : decode cX1_unsafeRequests 0 = .ok (.aload_n 0, 1) := dk_42 (dk_at dksX1_unsafeRequests_0 0 rfl rfl)
theorem dX1_unsafeRequests_1 : decode cX1_unsafeRequests 1 = .ok (.getfield 40, 3) := dk_180 0 40 (dk_at dksX1_unsafeRequests_0 1 rfl rfl)
theorem dX1_unsafeRequests_4 : decode cX1_unsafeRequests 4 = .ok (.getfield 292, 3) := dk_180 1 36 (dk_at dksX1_unsafeRequests_0 4 rfl rfl)
theorem dX1_unsafeRequests_7 : decode cX1_unsafeRequests 7 = .ok (.ireturn, 1) := dk_172 (dk_at dksX1_unsafeRequests_0 7 rfl rfl)
abbrev cX1_grantedPrinters : ByteArray := prog_1_method_50_code
def yX1_grantedPrinters : MethodName := ⟨RX1, "grantedPrinters", "()I"⟩
def dkwX1_grantedPrinters_0 : List UInt8 := [42, 180, 0, 40, 180, 1, 39, 172]
abbrev dktX1_grantedPrinters_0 : List UInt8 := dkwX1_grantedPrinters_0 ++ []
theorem dksX1_grantedPrinters_0 : cX1_grantedPrinters.data.toList.drop 0 = dktX1_grantedPrinters_0 := by decide +kernel
theorem dX1_grantedPrinters_0 : decode cX1_grantedPrinters 0 = .ok (.aload_n 0, 1) := dk_42 (dk_at dksX1_grantedPrinters_0 0 rfl rfl)
theorem dX1_grantedPrinters_1 : decode cX1_grantedPrinters 1 = .ok (.getfield 40, 3) := dk_180 0 40 (dk_at dksX1_grantedPrinters_0 1 rfl rfl)
theorem dX1_grantedPrinters_4 : decode cX1_grantedPrinters 4 = .ok (.getfield 295, 3) := dk_180 1 39 (dk_at dksX1_grantedPrinters_0 4 rfl rfl)
theorem dX1_grantedPrinters_7 : decode cX1_grantedPrinters 7 = .ok (.ireturn, 1) := dk_172 (dk_at dksX1_grantedPrinters_0 7 rfl rfl)
abbrev cX1_returnedPrinters : ByteArray := prog_1_method_51_code
def yX1_returnedPrinters : MethodName := ⟨RX1, "returnedPrinters", "()I"⟩
def dkwX1_returnedPrinters_0 : List UInt8 := [42, 180, 0, 40, 180, 1, 42, 172]
abbrev dktX1_returnedPrinters_0 : List UInt8 := dkwX1_returnedPrinters_0 ++ []
theorem dksX1_returnedPrinters_0 : cX1_returnedPrinters.data.toList.drop 0 = dktX1_returnedPrinters_0 := by decide +kernel
theorem dX1_returnedPrinters_0 : decode cX1_returnedPrinters 0 = .ok (.aload_n 0, 1) := dk_42 (dk_at dksX1_returnedPrinters_0 0 rfl rfl)
theorem dX1_returnedPrinters_1 : decode cX1_returnedPrinters 1 = .ok (.getfield 40, 3) := dk_180 0 40 (dk_at dksX1_returnedPrinters_0 1 rfl rfl)
theorem dX1_returnedPrinters_4 : decode cX1_returnedPrinters 4 = .ok (.getfield 298, 3) := dk_180 1 42 (dk_at dksX1_returnedPrinters_0 4 rfl rfl)
theorem dX1_returnedPrinters_7 : decode cX1_returnedPrinters 7 = .ok (.ireturn, 1) := dk_172 (dk_at dksX1_returnedPrinters_0 7 rfl rfl)
abbrev cX1_ledgerGap : ByteArray := prog_1_method_52_code
def yX1_ledgerGap : MethodName := ⟨RX1, "ledgerGap", "()I"⟩
def dkwX1_ledgerGap_1 : List UInt8 := [180, 0, 40, 182, 0, 185, 100, 184, 1, 48, 172]
abbrev dktX1_ledgerGap_1 : List UInt8 := dkwX1_ledgerGap_1 ++ []
def dkwX1_ledgerGap_0 : List UInt8 := [42, 180, 0, 40, 180, 1, 45, 42, 180, 0, 40, 180, 1, 39, 96, 42, 180, 0, 40, 180, 1, 42, 100, 42]
abbrev dktX1_ledgerGap_0 : List UInt8 := dkwX1_ledgerGap_0 ++ dktX1_ledgerGap_1
theorem dksX1_ledgerGap_0 : cX1_ledgerGap.data.toList.drop 0 = dktX1_ledgerGap_0 := by decide +kernel
theorem dksX1_ledgerGap_1 : cX1_ledgerGap.data.toList.drop 24 = dktX1_ledgerGap_1 := dk_seg dksX1_ledgerGap_0 24 rfl rfl
theorem dX1_ledgerGap_0 : decode cX1_ledgerGap 0 = .ok (.aload_n 0, 1) := dk_42 (dk_at dksX1_ledgerGap_0 0 rfl rfl)
theorem dX1_ledgerGap_1 : decode cX1_ledgerGap 1 = .ok (.getfield 40, 3) := dk_180 0 40 (dk_at dksX1_ledgerGap_0 1 rfl rfl)
theorem dX1_ledgerGap_4 : decode cX1_ledgerGap 4 = .ok (.getfield 301, 3) := dk_180 1 45 (dk_at dksX1_ledgerGap_0 4 rfl rfl)
theorem dX1_ledgerGap_7 : decode cX1_ledgerGap 7 = .ok (.aload_n 0, 1) := dk_42 (dk_at dksX1_ledgerGap_0 7 rfl rfl)
theorem dX1_ledgerGap_8 : decode cX1_ledgerGap 8 = .ok (.getfield 40, 3) := dk_180 0 40 (dk_at dksX1_ledgerGap_0 8 rfl rfl)
theorem dX1_ledgerGap_11 : decode cX1_ledgerGap 11 = .ok (.getfield 295, 3) := dk_180 1 39 (dk_at dksX1_ledgerGap_0 11 rfl rfl)
theorem dX1_ledgerGap_14 : decode cX1_ledgerGap 14 = .ok (.iadd, 1) := dk_96 (dk_at dksX1_ledgerGap_0 14 rfl rfl)
theorem dX1_ledgerGap_15 : decode cX1_ledgerGap 15 = .ok (.aload_n 0, 1) := dk_42 (dk_at dksX1_ledgerGap_0 15 rfl rfl)
theorem dX1_ledgerGap_16 : decode cX1_ledgerGap 16 = .ok (.getfield 40, 3) := dk_180 0 40 (dk_at dksX1_ledgerGap_0 16 rfl rfl)
theorem dX1_ledgerGap_19 : decode cX1_ledgerGap 19 = .ok (.getfield 298, 3) := dk_180 1 42 (dk_at dksX1_ledgerGap_0 19 rfl rfl)
theorem dX1_ledgerGap_22 : decode cX1_ledgerGap 22 = .ok (.isub, 1) := dk_100 (dk_at dksX1_ledgerGap_0 22 rfl rfl)
theorem dX1_ledgerGap_23 : decode cX1_ledgerGap 23 = .ok (.aload_n 0, 1) := dk_42 (dk_at dksX1_ledgerGap_0 23 rfl rfl)
theorem dX1_ledgerGap_24 : decode cX1_ledgerGap 24 = .ok (.getfield 40, 3) := dk_180 0 40 (dk_at dksX1_ledgerGap_1 0 rfl rfl)
theorem dX1_ledgerGap_27 : decode cX1_ledgerGap 27 = .ok (.invokevirtual 185, 3) := dk_182 0 185 (dk_at dksX1_ledgerGap_1 3 rfl rfl)
theorem dX1_ledgerGap_30 : decode cX1_ledgerGap 30 = .ok (.isub, 1) := dk_100 (dk_at dksX1_ledgerGap_1 6 rfl rfl)
theorem dX1_ledgerGap_31 : decode cX1_ledgerGap 31 = .ok (.invokestatic 304, 3) := dk_184 1 48 (dk_at dksX1_ledgerGap_1 7 rfl rfl)
theorem dX1_ledgerGap_34 : decode cX1_ledgerGap 34 = .ok (.ireturn, 1) := dk_172 (dk_at dksX1_ledgerGap_1 10 rfl rfl)
abbrev cX1_undoableCount : ByteArray := prog_1_method_64_code
def yX1_undoableCount : MethodName := ⟨RX1, "undoableCount", "()I"⟩
def dkwX1_undoableCount_0 : List UInt8 := [42, 180, 0, 21, 182, 0, 56, 172]
abbrev dktX1_undoableCount_0 : List UInt8 := dkwX1_undoableCount_0 ++ []
theorem dksX1_undoableCount_0 : cX1_undoableCount.data.toList.drop 0 = dktX1_undoableCount_0 := by decide +kernel
theorem dX1_undoableCount_0 : decode cX1_undoableCount 0 = .ok (.aload_n 0, 1) := dk_42 (dk_at dksX1_undoableCount_0 0 rfl rfl)
theorem dX1_undoableCount_1 : decode cX1_undoableCount 1 = .ok (.getfield 21, 3) := dk_180 0 21 (dk_at dksX1_undoableCount_0 1 rfl rfl)
theorem dX1_undoableCount_4 : decode cX1_undoableCount 4 = .ok (.invokevirtual 56, 3) := dk_182 0 56 (dk_at dksX1_undoableCount_0 4 rfl rfl)
theorem dX1_undoableCount_7 : decode cX1_undoableCount 7 = .ok (.ireturn, 1) := dk_172 (dk_at dksX1_undoableCount_0 7 rfl rfl)
abbrev cX1_saveSnapshot : ByteArray := prog_1_method_66_code
def yX1_saveSnapshot : MethodName := ⟨RX1, "saveSnapshot", "()V"⟩
def dkwX1_saveSnapshot_0 : List UInt8 := [42, 42, 180, 0, 40, 182, 0, 68, 181, 0, 164, 177]
abbrev dktX1_saveSnapshot_0 : List UInt8 := dkwX1_saveSnapshot_0 ++ []
theorem dksX1_saveSnapshot_0 : cX1_saveSnapshot.data.toList.drop 0 = dktX1_saveSnapshot_0 := by decide +kernel
theorem dX1_saveSnapshot_0 : decode cX1_saveSnapshot 0 = .ok (.aload_n 0, 1) := dk_42 (dk_at dksX1_saveSnapshot_0 0 rfl rfl)
theorem dX1_saveSnapshot_1 : decode cX1_saveSnapshot 1 = .ok (.aload_n 0, 1) := dk_42 (dk_at dksX1_saveSnapshot_0 1 rfl rfl)
theorem dX1_saveSnapshot_2 : decode cX1_saveSnapshot 2 = .ok (.getfield 40, 3) := dk_180 0 40 (dk_at dksX1_saveSnapshot_0 2 rfl rfl)
theorem dX1_saveSnapshot_5 : decode cX1_saveSnapshot 5 = .ok (.invokevirtual 68, 3) := dk_182 0 68 (dk_at dksX1_saveSnapshot_0 5 rfl rfl)
theorem dX1_saveSnapshot_8 : decode cX1_saveSnapshot 8 = .ok (.putfield 164, 3) := dk_181 0 164 (dk_at dksX1_saveSnapshot_0 8 rfl rfl)
theorem dX1_saveSnapshot_11 : decode cX1_saveSnapshot 11 = .ok (.return_, 1) := dk_177 (dk_at dksX1_saveSnapshot_0 11 rfl rfl)
abbrev cX1_loadSystem : ByteArray := prog_1_method_16_code
def yX1_loadSystem : MethodName := ⟨RX1, "loadSystem", "(I)I"⟩
def dkwX1_loadSystem_4 : List UInt8 := [185, 0, 117, 1, 0, 172]
abbrev dktX1_loadSystem_4 : List UInt8 := dkwX1_loadSystem_4 ++ []
def dkwX1_loadSystem_3 : List UInt8 := [61, 42, 180, 0, 21, 182, 0, 161, 42, 1, 181, 0, 164, 42, 180, 0, 40, 180, 0, 113]
abbrev dktX1_loadSystem_3 : List UInt8 := dkwX1_loadSystem_3 ++ dktX1_loadSystem_4
def dkwX1_loadSystem_2 : List UInt8 := [182, 0, 157, 172, 77, 42, 44, 182, 0, 149, 44, 180, 0, 154, 182, 0, 157, 172, 42, 3, 2, 182, 0, 157]
abbrev dktX1_loadSystem_2 : List UInt8 := dkwX1_loadSystem_2 ++ dktX1_loadSystem_3
def dkwX1_loadSystem_1 : List UInt8 := [27, 183, 0, 139, 182, 0, 142, 181, 0, 40, 167, 0, 31, 77, 42, 44, 182, 0, 149, 44, 180, 0, 154]
abbrev dktX1_loadSystem_1 : List UInt8 := dkwX1_loadSystem_1 ++ dktX1_loadSystem_2
def dkwX1_loadSystem_0 : List UInt8 := [42, 27, 3, 42, 180, 0, 130, 182, 0, 133, 42, 3, 181, 0, 130, 42, 187, 0, 137, 89, 42, 180, 0, 14]
abbrev dktX1_loadSystem_0 : List UInt8 := dkwX1_loadSystem_0 ++ dktX1_loadSystem_1
theorem dksX1_loadSystem_0 : cX1_loadSystem.data.toList.drop 0 = dktX1_loadSystem_0 := by decide +kernel
theorem dksX1_loadSystem_1 : cX1_loadSystem.data.toList.drop 24 = dktX1_loadSystem_1 := dk_seg dksX1_loadSystem_0 24 rfl rfl
theorem dksX1_loadSystem_2 : cX1_loadSystem.data.toList.drop 47 = dktX1_loadSystem_2 := dk_seg dksX1_loadSystem_1 23 rfl rfl
theorem dksX1_loadSystem_3 : cX1_loadSystem.data.toList.drop 71 = dktX1_loadSystem_3 := dk_seg dksX1_loadSystem_2 24 rfl rfl
theorem dksX1_loadSystem_4 : cX1_loadSystem.data.toList.drop 91 = dktX1_loadSystem_4 := dk_seg dksX1_loadSystem_3 20 rfl rfl
theorem dX1_loadSystem_0 : decode cX1_loadSystem 0 = .ok (.aload_n 0, 1) := dk_42 (dk_at dksX1_loadSystem_0 0 rfl rfl)
theorem dX1_loadSystem_1 : decode cX1_loadSystem 1 = .ok (.iload_n 1, 1) := dk_27 (dk_at dksX1_loadSystem_0 1 rfl rfl)
theorem dX1_loadSystem_2 : decode cX1_loadSystem 2 = .ok (.iconst 0, 1) := dk_3 (dk_at dksX1_loadSystem_0 2 rfl rfl)
theorem dX1_loadSystem_3 : decode cX1_loadSystem 3 = .ok (.aload_n 0, 1) := dk_42 (dk_at dksX1_loadSystem_0 3 rfl rfl)
theorem dX1_loadSystem_4 : decode cX1_loadSystem 4 = .ok (.getfield 130, 3) := dk_180 0 130 (dk_at dksX1_loadSystem_0 4 rfl rfl)
theorem dX1_loadSystem_7 : decode cX1_loadSystem 7 = .ok (.invokevirtual 133, 3) := dk_182 0 133 (dk_at dksX1_loadSystem_0 7 rfl rfl)
theorem dX1_loadSystem_10 : decode cX1_loadSystem 10 = .ok (.aload_n 0, 1) := dk_42 (dk_at dksX1_loadSystem_0 10 rfl rfl)
theorem dX1_loadSystem_11 : decode cX1_loadSystem 11 = .ok (.iconst 0, 1) := dk_3 (dk_at dksX1_loadSystem_0 11 rfl rfl)
theorem dX1_loadSystem_12 : decode cX1_loadSystem 12 = .ok (.putfield 130, 3) := dk_181 0 130 (dk_at dksX1_loadSystem_0 12 rfl rfl)
theorem dX1_loadSystem_15 : decode cX1_loadSystem 15 = .ok (.aload_n 0, 1) := dk_42 (dk_at dksX1_loadSystem_0 15 rfl rfl)
theorem dX1_loadSystem_16 : decode cX1_loadSystem 16 = .ok (.new 137, 3) := dk_187 0 137 (dk_at dksX1_loadSystem_0 16 rfl rfl)
theorem dX1_loadSystem_19 : decode cX1_loadSystem 19 = .ok (.dup, 1) := dk_89 (dk_at dksX1_loadSystem_0 19 rfl rfl)
theorem dX1_loadSystem_20 : decode cX1_loadSystem 20 = .ok (.aload_n 0, 1) := dk_42 (dk_at dksX1_loadSystem_0 20 rfl rfl)
theorem dX1_loadSystem_21 : decode cX1_loadSystem 21 = .ok (.getfield 14, 3) := dk_180 0 14 (dk_at dksX1_loadSystem_0 21 rfl rfl)
theorem dX1_loadSystem_24 : decode cX1_loadSystem 24 = .ok (.iload_n 1, 1) := dk_27 (dk_at dksX1_loadSystem_1 0 rfl rfl)
theorem dX1_loadSystem_25 : decode cX1_loadSystem 25 = .ok (.invokespecial 139, 3) := dk_183 0 139 (dk_at dksX1_loadSystem_1 1 rfl rfl)
theorem dX1_loadSystem_28 : decode cX1_loadSystem 28 = .ok (.invokevirtual 142, 3) := dk_182 0 142 (dk_at dksX1_loadSystem_1 4 rfl rfl)
theorem dX1_loadSystem_31 : decode cX1_loadSystem 31 = .ok (.putfield 40, 3) := dk_181 0 40 (dk_at dksX1_loadSystem_1 7 rfl rfl)
theorem dX1_loadSystem_34 : decode cX1_loadSystem 34 = .ok (.goto 31, 3) := dk_167 0 31 (dk_at dksX1_loadSystem_1 10 rfl rfl)
theorem dX1_loadSystem_37 : decode cX1_loadSystem 37 = .ok (.astore_n 2, 1) := dk_77 (dk_at dksX1_loadSystem_1 13 rfl rfl)
theorem dX1_loadSystem_38 : decode cX1_loadSystem 38 = .ok (.aload_n 0, 1) := dk_42 (dk_at dksX1_loadSystem_1 14 rfl rfl)
theorem dX1_loadSystem_39 : decode cX1_loadSystem 39 = .ok (.aload_n 2, 1) := dk_44 (dk_at dksX1_loadSystem_1 15 rfl rfl)
theorem dX1_loadSystem_40 : decode cX1_loadSystem 40 = .ok (.invokevirtual 149, 3) := dk_182 0 149 (dk_at dksX1_loadSystem_1 16 rfl rfl)
theorem dX1_loadSystem_43 : decode cX1_loadSystem 43 = .ok (.aload_n 2, 1) := dk_44 (dk_at dksX1_loadSystem_1 19 rfl rfl)
theorem dX1_loadSystem_44 : decode cX1_loadSystem 44 = .ok (.getfield 154, 3) := dk_180 0 154 (dk_at dksX1_loadSystem_1 20 rfl rfl)
theorem dX1_loadSystem_47 : decode cX1_loadSystem 47 = .ok (.invokevirtual 157, 3) := dk_182 0 157 (dk_at dksX1_loadSystem_2 0 rfl rfl)
theorem dX1_loadSystem_50 : decode cX1_loadSystem 50 = .ok (.ireturn, 1) := dk_172 (dk_at dksX1_loadSystem_2 3 rfl rfl)
theorem dX1_loadSystem_51 : decode cX1_loadSystem 51 = .ok (.astore_n 2, 1) := dk_77 (dk_at dksX1_loadSystem_2 4 rfl rfl)
theorem dX1_loadSystem_52 : decode cX1_loadSystem 52 = .ok (.aload_n 0, 1) := dk_42 (dk_at dksX1_loadSystem_2 5 rfl rfl)
theorem dX1_loadSystem_53 : decode cX1_loadSystem 53 = .ok (.aload_n 2, 1) := dk_44 (dk_at dksX1_loadSystem_2 6 rfl rfl)
theorem dX1_loadSystem_54 : decode cX1_loadSystem 54 = .ok (.invokevirtual 149, 3) := dk_182 0 149 (dk_at dksX1_loadSystem_2 7 rfl rfl)
theorem dX1_loadSystem_57 : decode cX1_loadSystem 57 = .ok (.aload_n 2, 1) := dk_44 (dk_at dksX1_loadSystem_2 10 rfl rfl)
theorem dX1_loadSystem_58 : decode cX1_loadSystem 58 = .ok (.getfield 154, 3) := dk_180 0 154 (dk_at dksX1_loadSystem_2 11 rfl rfl)
theorem dX1_loadSystem_61 : decode cX1_loadSystem 61 = .ok (.invokevirtual 157, 3) := dk_182 0 157 (dk_at dksX1_loadSystem_2 14 rfl rfl)
theorem dX1_loadSystem_64 : decode cX1_loadSystem 64 = .ok (.ireturn, 1) := dk_172 (dk_at dksX1_loadSystem_2 17 rfl rfl)
theorem dX1_loadSystem_65 : decode cX1_loadSystem 65 = .ok (.aload_n 0, 1) := dk_42 (dk_at dksX1_loadSystem_2 18 rfl rfl)
theorem dX1_loadSystem_66 : decode cX1_loadSystem 66 = .ok (.iconst 0, 1) := dk_3 (dk_at dksX1_loadSystem_2 19 rfl rfl)
theorem dX1_loadSystem_67 : decode cX1_loadSystem 67 = .ok (.iconst (-1), 1) := dk_2 (dk_at dksX1_loadSystem_2 20 rfl rfl)
theorem dX1_loadSystem_68 : decode cX1_loadSystem 68 = .ok (.invokevirtual 157, 3) := dk_182 0 157 (dk_at dksX1_loadSystem_2 21 rfl rfl)
theorem dX1_loadSystem_71 : decode cX1_loadSystem 71 = .ok (.istore_n 2, 1) := dk_61 (dk_at dksX1_loadSystem_3 0 rfl rfl)
theorem dX1_loadSystem_72 : decode cX1_loadSystem 72 = .ok (.aload_n 0, 1) := dk_42 (dk_at dksX1_loadSystem_3 1 rfl rfl)
theorem dX1_loadSystem_73 : decode cX1_loadSystem 73 = .ok (.getfield 21, 3) := dk_180 0 21 (dk_at dksX1_loadSystem_3 2 rfl rfl)
theorem dX1_loadSystem_76 : decode cX1_loadSystem 76 = .ok (.invokevirtual 161, 3) := dk_182 0 161 (dk_at dksX1_loadSystem_3 5 rfl rfl)
theorem dX1_loadSystem_79 : decode cX1_loadSystem 79 = .ok (.aload_n 0, 1) := dk_42 (dk_at dksX1_loadSystem_3 8 rfl rfl)
theorem dX1_loadSystem_80 : decode cX1_loadSystem 80 = .ok (.aconst_null, 1) := dk_1 (dk_at dksX1_loadSystem_3 9 rfl rfl)
theorem dX1_loadSystem_81 : decode cX1_loadSystem 81 = .ok (.putfield 164, 3) := dk_181 0 164 (dk_at dksX1_loadSystem_3 10 rfl rfl)
theorem dX1_loadSystem_84 : decode cX1_loadSystem 84 = .ok (.aload_n 0, 1) := dk_42 (dk_at dksX1_loadSystem_3 13 rfl rfl)
theorem dX1_loadSystem_85 : decode cX1_loadSystem 85 = .ok (.getfield 40, 3) := dk_180 0 40 (dk_at dksX1_loadSystem_3 14 rfl rfl)
theorem dX1_loadSystem_88 : decode cX1_loadSystem 88 = .ok (.getfield 113, 3) := dk_180 0 113 (dk_at dksX1_loadSystem_3 17 rfl rfl)
theorem dX1_loadSystem_91 : decode cX1_loadSystem 91 = .ok (.invokeinterface 117 1, 5) := by decide +kernel
theorem dX1_loadSystem_96 : decode cX1_loadSystem 96 = .ok (.ireturn, 1) := dk_172 (dk_at dksX1_loadSystem_4 5 rfl rfl)
abbrev cX1_requireRange : ByteArray := prog_1_method_13_code
def yX1_requireRange : MethodName := ⟨RX1, "requireRange", "(III)V"⟩
def dkwX1_requireRange_0 : List UInt8 := [27, 28, 29, 184, 0, 120, 154, 0, 11, 187, 0, 124, 89, 183, 0, 126, 191, 177]
abbrev dktX1_requireRange_0 : List UInt8 := dkwX1_requireRange_0 ++ []
theorem dksX1_requireRange_0 : cX1_requireRange.data.toList.drop 0 = dktX1_requireRange_0 := by decide +kernel
theorem dX1_requireRange_0 : decode cX1_requireRange 0 = .ok (.iload_n 1, 1) := dk_27 (dk_at dksX1_requireRange_0 0 rfl rfl)
theorem dX1_requireRange_1 : decode cX1_requireRange 1 = .ok (.iload_n 2, 1) := dk_28 (dk_at dksX1_requireRange_0 1 rfl rfl)
theorem dX1_requireRange_2 : decode cX1_requireRange 2 = .ok (.iload_n 3, 1) := dk_29 (dk_at dksX1_requireRange_0 2 rfl rfl)
theorem dX1_requireRange_3 : decode cX1_requireRange 3 = .ok (.invokestatic 120, 3) := dk_184 0 120 (dk_at dksX1_requireRange_0 3 rfl rfl)
theorem dX1_requireRange_6 : decode cX1_requireRange 6 = .ok (.ifCond .ne 11, 3) := dk_154 0 11 (dk_at dksX1_requireRange_0 6 rfl rfl)
theorem dX1_requireRange_9 : decode cX1_requireRange 9 = .ok (.new 124, 3) := dk_187 0 124 (dk_at dksX1_requireRange_0 9 rfl rfl)
theorem dX1_requireRange_12 : decode cX1_requireRange 12 = .ok (.dup, 1) := dk_89 (dk_at dksX1_requireRange_0 12 rfl rfl)
theorem dX1_requireRange_13 : decode cX1_requireRange 13 = .ok (.invokespecial 126, 3) := dk_183 0 126 (dk_at dksX1_requireRange_0 13 rfl rfl)
theorem dX1_requireRange_16 : decode cX1_requireRange 16 = .ok (.athrow, 1) := dk_191 (dk_at dksX1_requireRange_0 16 rfl rfl)
theorem dX1_requireRange_17 : decode cX1_requireRange 17 = .ok (.return_, 1) := dk_177 (dk_at dksX1_requireRange_0 17 rfl rfl)
abbrev cX1_report : ByteArray := prog_1_method_14_code
def yX1_report : MethodName := ⟨RX1, "report", "(II)I"⟩
def dkwX1_report_0 : List UInt8 := [42, 27, 181, 0, 127, 42, 28, 181, 0, 25, 2, 172]
abbrev dktX1_report_0 : List UInt8 := dkwX1_report_0 ++ []
theorem dksX1_report_0 : cX1_report.data.toList.drop 0 = dktX1_report_0 := by decide +kernel
theorem dX1_report_0 : decode cX1_report 0 = .ok (.aload_n 0, 1) := dk_42 (dk_at dksX1_report_0 0 rfl rfl)
theorem dX1_report_1 : decode cX1_report 1 = .ok (.iload_n 1, 1) := dk_27 (dk_at dksX1_report_0 1 rfl rfl)
theorem dX1_report_2 : decode cX1_report 2 = .ok (.putfield 127, 3) := dk_181 0 127 (dk_at dksX1_report_0 2 rfl rfl)
theorem dX1_report_5 : decode cX1_report 5 = .ok (.aload_n 0, 1) := dk_42 (dk_at dksX1_report_0 5 rfl rfl)
theorem dX1_report_6 : decode cX1_report 6 = .ok (.iload_n 2, 1) := dk_28 (dk_at dksX1_report_0 6 rfl rfl)
theorem dX1_report_7 : decode cX1_report 7 = .ok (.putfield 25, 3) := dk_181 0 25 (dk_at dksX1_report_0 7 rfl rfl)
theorem dX1_report_10 : decode cX1_report 10 = .ok (.iconst (-1), 1) := dk_2 (dk_at dksX1_report_0 10 rfl rfl)
theorem dX1_report_11 : decode cX1_report 11 = .ok (.ireturn, 1) := dk_172 (dk_at dksX1_report_0 11 rfl rfl)
abbrev cX1_total : ByteArray := prog_1_method_20_code
def yX1_total : MethodName := ⟨RX1, "total", "(I)I"⟩
def dkwX1_total_0 : List UInt8 := [42, 27, 182, 0, 106, 42, 180, 0, 40, 180, 0, 170, 27, 46, 172]
abbrev dktX1_total_0 : List UInt8 := dkwX1_total_0 ++ []
theorem dksX1_total_0 : cX1_total.data.toList.drop 0 = dktX1_total_0 := by decide +kernel
theorem dX1_total_0 : decode cX1_total 0 = .ok (.aload_n 0, 1) := dk_42 (dk_at dksX1_total_0 0 rfl rfl)
theorem dX1_total_1 : decode cX1_total 1 = .ok (.iload_n 1, 1) := dk_27 (dk_at dksX1_total_0 1 rfl rfl)
theorem dX1_total_2 : decode cX1_total 2 = .ok (.invokevirtual 106, 3) := dk_182 0 106 (dk_at dksX1_total_0 2 rfl rfl)
theorem dX1_total_5 : decode cX1_total 5 = .ok (.aload_n 0, 1) := dk_42 (dk_at dksX1_total_0 5 rfl rfl)
theorem dX1_total_6 : decode cX1_total 6 = .ok (.getfield 40, 3) := dk_180 0 40 (dk_at dksX1_total_0 6 rfl rfl)
theorem dX1_total_9 : decode cX1_total 9 = .ok (.getfield 170, 3) := dk_180 0 170 (dk_at dksX1_total_0 9 rfl rfl)
theorem dX1_total_12 : decode cX1_total 12 = .ok (.iload_n 1, 1) := dk_27 (dk_at dksX1_total_0 12 rfl rfl)
theorem dX1_total_13 : decode cX1_total 13 = .ok (.iaload, 1) := dk_46 (dk_at dksX1_total_0 13 rfl rfl)
theorem dX1_total_14 : decode cX1_total 14 = .ok (.ireturn, 1) := dk_172 (dk_at dksX1_total_0 14 rfl rfl)
abbrev cX1_requireKind : ByteArray := prog_1_method_10_code
def yX1_requireKind : MethodName := ⟨RX1, "requireKind", "(I)V"⟩
def dkwX1_requireKind_0 : List UInt8 := [42, 180, 0, 40, 27, 182, 0, 103, 154, 0, 11, 187, 0, 96, 89, 183, 0, 98, 191, 177]
abbrev dktX1_requireKind_0 : List UInt8 := dkwX1_requireKind_0 ++ []
theorem dksX1_requireKind_0 : cX1_requireKind.data.toList.drop 0 = dktX1_requireKind_0 := by decide +kernel
theorem dX1_requireKind_0 : decode cX1_requireKind 0 = .ok (.aload_n 0, 1) := dk_42 (dk_at dksX1_requireKind_0 0 rfl rfl)
theorem dX1_requireKind_1 : decode cX1_requireKind 1 = .ok (.getfield 40, 3) := dk_180 0 40 (dk_at dksX1_requireKind_0 1 rfl rfl)
theorem dX1_requireKind_4 : decode cX1_requireKind 4 = .ok (.iload_n 1, 1) := dk_27 (dk_at dksX1_requireKind_0 4 rfl rfl)
theorem dX1_requireKind_5 : decode cX1_requireKind 5 = .ok (.invokevirtual 103, 3) := dk_182 0 103 (dk_at dksX1_requireKind_0 5 rfl rfl)
theorem dX1_requireKind_8 : decode cX1_requireKind 8 = .ok (.ifCond .ne 11, 3) := dk_154 0 11 (dk_at dksX1_requireKind_0 8 rfl rfl)
theorem dX1_requireKind_11 : decode cX1_requireKind 11 = .ok (.new 96, 3) := dk_187 0 96 (dk_at dksX1_requireKind_0 11 rfl rfl)
theorem dX1_requireKind_14 : decode cX1_requireKind 14 = .ok (.dup, 1) := dk_89 (dk_at dksX1_requireKind_0 14 rfl rfl)
theorem dX1_requireKind_15 : decode cX1_requireKind 15 = .ok (.invokespecial 98, 3) := dk_183 0 98 (dk_at dksX1_requireKind_0 15 rfl rfl)
theorem dX1_requireKind_18 : decode cX1_requireKind 18 = .ok (.athrow, 1) := dk_191 (dk_at dksX1_requireKind_0 18 rfl rfl)
theorem dX1_requireKind_19 : decode cX1_requireKind 19 = .ok (.return_, 1) := dk_177 (dk_at dksX1_requireKind_0 19 rfl rfl)
abbrev cX1_available : ByteArray := prog_1_method_21_code
def yX1_available : MethodName := ⟨RX1, "available", "(I)I"⟩
def dkwX1_available_0 : List UInt8 := [42, 27, 182, 0, 106, 42, 180, 0, 40, 27, 182, 0, 174, 172]
abbrev dktX1_available_0 : List UInt8 := dkwX1_available_0 ++ []
theorem dksX1_available_0 : cX1_available.data.toList.drop 0 = dktX1_available_0 := by decide +kernel
theorem dX1_available_0 : decode cX1_available 0 = .ok (.aload_n 0, 1) := dk_42 (dk_at dksX1_available_0 0 rfl rfl)
theorem dX1_available_1 : decode cX1_available 1 = .ok (.iload_n 1, 1) := dk_27 (dk_at dksX1_available_0 1 rfl rfl)
theorem dX1_available_2 : decode cX1_available 2 = .ok (.invokevirtual 106, 3) := dk_182 0 106 (dk_at dksX1_available_0 2 rfl rfl)
theorem dX1_available_5 : decode cX1_available 5 = .ok (.aload_n 0, 1) := dk_42 (dk_at dksX1_available_0 5 rfl rfl)
theorem dX1_available_6 : decode cX1_available 6 = .ok (.getfield 40, 3) := dk_180 0 40 (dk_at dksX1_available_0 6 rfl rfl)
theorem dX1_available_9 : decode cX1_available 9 = .ok (.iload_n 1, 1) := dk_27 (dk_at dksX1_available_0 9 rfl rfl)
theorem dX1_available_10 : decode cX1_available 10 = .ok (.invokevirtual 174, 3) := dk_182 0 174 (dk_at dksX1_available_0 10 rfl rfl)
theorem dX1_available_13 : decode cX1_available 13 = .ok (.ireturn, 1) := dk_172 (dk_at dksX1_available_0 13 rfl rfl)
abbrev cX1_claimedInAll : ByteArray := prog_1_method_22_code
def yX1_claimedInAll : MethodName := ⟨RX1, "claimedInAll", "(I)I"⟩
def dkwX1_claimedInAll_0 : List UInt8 := [42, 27, 182, 0, 106, 42, 180, 0, 40, 27, 182, 0, 178, 172]
abbrev dktX1_claimedInAll_0 : List UInt8 := dkwX1_claimedInAll_0 ++ []
theorem dksX1_claimedInAll_0 : cX1_claimedInAll.data.toList.drop 0 = dktX1_claimedInAll_0 := by decide +kernel
theorem dX1_claimedInAll_0 : decode cX1_claimedInAll 0 = .ok (.aload_n 0, 1) := dk_42 (dk_at dksX1_claimedInAll_0 0 rfl rfl)
theorem dX1_claimedInAll_1 : decode cX1_claimedInAll 1 = .ok (.iload_n 1, 1) := dk_27 (dk_at dksX1_claimedInAll_0 1 rfl rfl)
theorem dX1_claimedInAll_2 : decode cX1_claimedInAll 2 = .ok (.invokevirtual 106, 3) := dk_182 0 106 (dk_at dksX1_claimedInAll_0 2 rfl rfl)
theorem dX1_claimedInAll_5 : decode cX1_claimedInAll 5 = .ok (.aload_n 0, 1) := dk_42 (dk_at dksX1_claimedInAll_0 5 rfl rfl)
theorem dX1_claimedInAll_6 : decode cX1_claimedInAll 6 = .ok (.getfield 40, 3) := dk_180 0 40 (dk_at dksX1_claimedInAll_0 6 rfl rfl)
theorem dX1_claimedInAll_9 : decode cX1_claimedInAll 9 = .ok (.iload_n 1, 1) := dk_27 (dk_at dksX1_claimedInAll_0 9 rfl rfl)
theorem dX1_claimedInAll_10 : decode cX1_claimedInAll 10 = .ok (.invokevirtual 178, 3) := dk_182 0 178 (dk_at dksX1_claimedInAll_0 10 rfl rfl)
theorem dX1_claimedInAll_13 : decode cX1_claimedInAll 13 = .ok (.ireturn, 1) := dk_172 (dk_at dksX1_claimedInAll_0 13 rfl rfl)
abbrev cX1_claim : ByteArray := prog_1_method_26_code
def yX1_claim : MethodName := ⟨RX1, "claim", "(II)I"⟩
def dkwX1_claim_0 : List UInt8 := [42, 27, 28, 182, 0, 188, 180, 0, 192, 28, 46, 172]
abbrev dktX1_claim_0 : List UInt8 := dkwX1_claim_0 ++ []
theorem dksX1_claim_0 : cX1_claim.data.toList.drop 0 = dktX1_claim_0 := by decide +kernel
theorem dX1_claim_0 : decode cX1_claim 0 = .ok (.aload_n 0, 1) := dk_42 (dk_at dksX1_claim_0 0 rfl rfl)
theorem dX1_claim_1 : decode cX1_claim 1 = .ok (.iload_n 1, 1) := dk_27 (dk_at dksX1_claim_0 1 rfl rfl)
theorem dX1_claim_2 : decode cX1_claim 2 = .ok (.iload_n 2, 1) := dk_28 (dk_at dksX1_claim_0 2 rfl rfl)
theorem dX1_claim_3 : decode cX1_claim 3 = .ok (.invokevirtual 188, 3) := dk_182 0 188 (dk_at dksX1_claim_0 3 rfl rfl)
theorem dX1_claim_6 : decode cX1_claim 6 = .ok (.getfield 192, 3) := dk_180 0 192 (dk_at dksX1_claim_0 6 rfl rfl)
theorem dX1_claim_9 : decode cX1_claim 9 = .ok (.iload_n 2, 1) := dk_28 (dk_at dksX1_claim_0 9 rfl rfl)
theorem dX1_claim_10 : decode cX1_claim 10 = .ok (.iaload, 1) := dk_46 (dk_at dksX1_claim_0 10 rfl rfl)
theorem dX1_claim_11 : decode cX1_claim 11 = .ok (.ireturn, 1) := dk_172 (dk_at dksX1_claim_0 11 rfl rfl)
abbrev cX1_require : ByteArray := prog_1_method_11_code
def yX1_require : MethodName := ⟨RX1, "require", "(II)LPrinterClaims$Office;"⟩
def dkwX1_require_0 : List UInt8 := [42, 28, 182, 0, 106, 42, 27, 182, 0, 110, 176]
abbrev dktX1_require_0 : List UInt8 := dkwX1_require_0 ++ []
theorem dksX1_require_0 : cX1_require.data.toList.drop 0 = dktX1_require_0 := by decide +kernel
theorem dX1_require_0 : decode cX1_require 0 = .ok (.aload_n 0, 1) := dk_42 (dk_at dksX1_require_0 0 rfl rfl)
theorem dX1_require_1 : decode cX1_require 1 = .ok (.iload_n 2, 1) := dk_28 (dk_at dksX1_require_0 1 rfl rfl)
theorem dX1_require_2 : decode cX1_require 2 = .ok (.invokevirtual 106, 3) := dk_182 0 106 (dk_at dksX1_require_0 2 rfl rfl)
theorem dX1_require_5 : decode cX1_require 5 = .ok (.aload_n 0, 1) := dk_42 (dk_at dksX1_require_0 5 rfl rfl)
theorem dX1_require_6 : decode cX1_require 6 = .ok (.iload_n 1, 1) := dk_27 (dk_at dksX1_require_0 6 rfl rfl)
theorem dX1_require_7 : decode cX1_require 7 = .ok (.invokevirtual 110, 3) := dk_182 0 110 (dk_at dksX1_require_0 7 rfl rfl)
theorem dX1_require_10 : decode cX1_require 10 = .ok (.areturn, 1) := dk_176 (dk_at dksX1_require_0 10 rfl rfl)
abbrev cX1_requireOffice : ByteArray := prog_1_method_9_code
def yX1_requireOffice : MethodName := ⟨RX1, "requireOffice", "(I)LPrinterClaims$Office;"⟩
def dkwX1_requireOffice_1 : List UInt8 := [182, 0, 99, 176]
abbrev dktX1_requireOffice_1 : List UInt8 := dkwX1_requireOffice_1 ++ []
def dkwX1_requireOffice_0 : List UInt8 := [42, 180, 0, 40, 27, 182, 0, 92, 154, 0, 11, 187, 0, 96, 89, 183, 0, 98, 191, 42, 180, 0, 40, 27]
abbrev dktX1_requireOffice_0 : List UInt8 := dkwX1_requireOffice_0 ++ dktX1_requireOffice_1
theorem dksX1_requireOffice_0 : cX1_requireOffice.data.toList.drop 0 = dktX1_requireOffice_0 := by decide +kernel
theorem dksX1_requireOffice_1 : cX1_requireOffice.data.toList.drop 24 = dktX1_requireOffice_1 := dk_seg dksX1_requireOffice_0 24 rfl rfl
theorem dX1_requireOffice_0 : decode cX1_requireOffice 0 = .ok (.aload_n 0, 1) := dk_42 (dk_at dksX1_requireOffice_0 0 rfl rfl)
theorem dX1_requireOffice_1 : decode cX1_requireOffice 1 = .ok (.getfield 40, 3) := dk_180 0 40 (dk_at dksX1_requireOffice_0 1 rfl rfl)
theorem dX1_requireOffice_4 : decode cX1_requireOffice 4 = .ok (.iload_n 1, 1) := dk_27 (dk_at dksX1_requireOffice_0 4 rfl rfl)
theorem dX1_requireOffice_5 : decode cX1_requireOffice 5 = .ok (.invokevirtual 92, 3) := dk_182 0 92 (dk_at dksX1_requireOffice_0 5 rfl rfl)
theorem dX1_requireOffice_8 : decode cX1_requireOffice 8 = .ok (.ifCond .ne 11, 3) := dk_154 0 11 (dk_at dksX1_requireOffice_0 8 rfl rfl)
theorem dX1_requireOffice_11 : decode cX1_requireOffice 11 = .ok (.new 96, 3) := dk_187 0 96 (dk_at dksX1_requireOffice_0 11 rfl rfl)
theorem dX1_requireOffice_14 : decode cX1_requireOffice 14 = .ok (.dup, 1) := dk_89 (dk_at dksX1_requireOffice_0 14 rfl rfl)
theorem dX1_requireOffice_15 : decode cX1_requireOffice 15 = .ok (.invokespecial 98, 3) := dk_183 0 98 (dk_at dksX1_requireOffice_0 15 rfl rfl)
theorem dX1_requireOffice_18 : decode cX1_requireOffice 18 = .ok (.athrow, 1) := dk_191 (dk_at dksX1_requireOffice_0 18 rfl rfl)
theorem dX1_requireOffice_19 : decode cX1_requireOffice 19 = .ok (.aload_n 0, 1) := dk_42 (dk_at dksX1_requireOffice_0 19 rfl rfl)
theorem dX1_requireOffice_20 : decode cX1_requireOffice 20 = .ok (.getfield 40, 3) := dk_180 0 40 (dk_at dksX1_requireOffice_0 20 rfl rfl)
theorem dX1_requireOffice_23 : decode cX1_requireOffice 23 = .ok (.iload_n 1, 1) := dk_27 (dk_at dksX1_requireOffice_0 23 rfl rfl)
theorem dX1_requireOffice_24 : decode cX1_requireOffice 24 = .ok (.invokevirtual 99, 3) := dk_182 0 99 (dk_at dksX1_requireOffice_1 0 rfl rfl)
theorem dX1_requireOffice_27 : decode cX1_requireOffice 27 = .ok (.areturn, 1) := dk_176 (dk_at dksX1_requireOffice_1 3 rfl rfl)
abbrev cX1_allocated : ByteArray := prog_1_method_27_code
def yX1_allocated : MethodName := ⟨RX1, "allocated", "(II)I"⟩
def dkwX1_allocated_0 : List UInt8 := [42, 27, 28, 182, 0, 188, 180, 0, 195, 28, 46, 172]
abbrev dktX1_allocated_0 : List UInt8 := dkwX1_allocated_0 ++ []
theorem dksX1_allocated_0 : cX1_allocated.data.toList.drop 0 = dktX1_allocated_0 := by decide +kernel
theorem dX1_allocated_0 : decode cX1_allocated 0 = .ok (.aload_n 0, 1) := dk_42 (dk_at dksX1_allocated_0 0 rfl rfl)
theorem dX1_allocated_1 : decode cX1_allocated 1 = .ok (.iload_n 1, 1) := dk_27 (dk_at dksX1_allocated_0 1 rfl rfl)
theorem dX1_allocated_2 : decode cX1_allocated 2 = .ok (.iload_n 2, 1) := dk_28 (dk_at dksX1_allocated_0 2 rfl rfl)
theorem dX1_allocated_3 : decode cX1_allocated 3 = .ok (.invokevirtual 188, 3) := dk_182 0 188 (dk_at dksX1_allocated_0 3 rfl rfl)
theorem dX1_allocated_6 : decode cX1_allocated 6 = .ok (.getfield 195, 3) := dk_180 0 195 (dk_at dksX1_allocated_0 6 rfl rfl)
theorem dX1_allocated_9 : decode cX1_allocated 9 = .ok (.iload_n 2, 1) := dk_28 (dk_at dksX1_allocated_0 9 rfl rfl)
theorem dX1_allocated_10 : decode cX1_allocated 10 = .ok (.iaload, 1) := dk_46 (dk_at dksX1_allocated_0 10 rfl rfl)
theorem dX1_allocated_11 : decode cX1_allocated 11 = .ok (.ireturn, 1) := dk_172 (dk_at dksX1_allocated_0 11 rfl rfl)
abbrev cX1_need : ByteArray := prog_1_method_28_code
def yX1_need : MethodName := ⟨RX1, "need", "(II)I"⟩
def dkwX1_need_0 : List UInt8 := [42, 27, 28, 182, 0, 188, 28, 182, 0, 198, 172]
abbrev dktX1_need_0 : List UInt8 := dkwX1_need_0 ++ []
theorem dksX1_need_0 : cX1_need.data.toList.drop 0 = dktX1_need_0 := by decide +kernel
theorem dX1_need_0 : decode cX1_need 0 = .ok (.aload_n 0, 1) := dk_42 (dk_at dksX1_need_0 0 rfl rfl)
theorem dX1_need_1 : decode cX1_need 1 = .ok (.iload_n 1, 1) := dk_27 (dk_at dksX1_need_0 1 rfl rfl)
theorem dX1_need_2 : decode cX1_need 2 = .ok (.iload_n 2, 1) := dk_28 (dk_at dksX1_need_0 2 rfl rfl)
theorem dX1_need_3 : decode cX1_need 3 = .ok (.invokevirtual 188, 3) := dk_182 0 188 (dk_at dksX1_need_0 3 rfl rfl)
theorem dX1_need_6 : decode cX1_need 6 = .ok (.iload_n 2, 1) := dk_28 (dk_at dksX1_need_0 6 rfl rfl)
theorem dX1_need_7 : decode cX1_need 7 = .ok (.invokevirtual 198, 3) := dk_182 0 198 (dk_at dksX1_need_0 7 rfl rfl)
theorem dX1_need_10 : decode cX1_need 10 = .ok (.ireturn, 1) := dk_172 (dk_at dksX1_need_0 10 rfl rfl)
abbrev cX1_canFinish : ByteArray := prog_1_method_29_code
def yX1_canFinish : MethodName := ⟨RX1, "canFinish", "(I)Z"⟩
def dkwX1_canFinish_0 : List UInt8 := [42, 27, 182, 0, 110, 42, 180, 0, 40, 182, 0, 201, 182, 0, 204, 172]
abbrev dktX1_canFinish_0 : List UInt8 := dkwX1_canFinish_0 ++ []
theorem dksX1_canFinish_0 : cX1_canFinish.data.toList.drop 0 = dktX1_canFinish_0 := by decide +kernel
theorem dX1_canFinish_0 : decode cX1_canFinish 0 = .ok (.aload_n 0, 1) := dk_42 (dk_at dksX1_canFinish_0 0 rfl rfl)
theorem dX1_canFinish_1 : decode cX1_canFinish 1 = .ok (.iload_n 1, 1) := dk_27 (dk_at dksX1_canFinish_0 1 rfl rfl)
theorem dX1_canFinish_2 : decode cX1_canFinish 2 = .ok (.invokevirtual 110, 3) := dk_182 0 110 (dk_at dksX1_canFinish_0 2 rfl rfl)
theorem dX1_canFinish_5 : decode cX1_canFinish 5 = .ok (.aload_n 0, 1) := dk_42 (dk_at dksX1_canFinish_0 5 rfl rfl)
theorem dX1_canFinish_6 : decode cX1_canFinish 6 = .ok (.getfield 40, 3) := dk_180 0 40 (dk_at dksX1_canFinish_0 6 rfl rfl)
theorem dX1_canFinish_9 : decode cX1_canFinish 9 = .ok (.invokevirtual 201, 3) := dk_182 0 201 (dk_at dksX1_canFinish_0 9 rfl rfl)
theorem dX1_canFinish_12 : decode cX1_canFinish 12 = .ok (.invokevirtual 204, 3) := dk_182 0 204 (dk_at dksX1_canFinish_0 12 rfl rfl)
theorem dX1_canFinish_15 : decode cX1_canFinish 15 = .ok (.ireturn, 1) := dk_172 (dk_at dksX1_canFinish_0 15 rfl rfl)
abbrev cX1_waitsForKind : ByteArray := prog_1_method_35_code
def yX1_waitsForKind : MethodName := ⟨RX1, "waitsForKind", "(I)I"⟩
def dkwX1_waitsForKind_1 : List UInt8 := [182, 0, 243, 172]
abbrev dktX1_waitsForKind_1 : List UInt8 := dkwX1_waitsForKind_1 ++ []
def dkwX1_waitsForKind_0 : List UInt8 := [42, 27, 182, 0, 110, 77, 42, 180, 0, 40, 27, 182, 0, 239, 78, 45, 199, 0, 7, 2, 167, 0, 7, 45]
abbrev dktX1_waitsForKind_0 : List UInt8 := dkwX1_waitsForKind_0 ++ dktX1_waitsForKind_1
theorem dksX1_waitsForKind_0 : cX1_waitsForKind.data.toList.drop 0 = dktX1_waitsForKind_0 := by decide +kernel
theorem dksX1_waitsForKind_1 : cX1_waitsForKind.data.toList.drop 24 = dktX1_waitsForKind_1 := dk_seg dksX1_waitsForKind_0 24 rfl rfl
theorem dX1_waitsForKind_0 : decode cX1_waitsForKind 0 = .ok (.aload_n 0, 1) := dk_42 (dk_at dksX1_waitsForKind_0 0 rfl rfl)
theorem dX1_waitsForKind_1 : decode cX1_waitsForKind 1 = .ok (.iload_n 1, 1) := dk_27 (dk_at dksX1_waitsForKind_0 1 rfl rfl)
theorem dX1_waitsForKind_2 : decode cX1_waitsForKind 2 = .ok (.invokevirtual 110, 3) := dk_182 0 110 (dk_at dksX1_waitsForKind_0 2 rfl rfl)
theorem dX1_waitsForKind_5 : decode cX1_waitsForKind 5 = .ok (.astore_n 2, 1) := dk_77 (dk_at dksX1_waitsForKind_0 5 rfl rfl)
theorem dX1_waitsForKind_6 : decode cX1_waitsForKind 6 = .ok (.aload_n 0, 1) := dk_42 (dk_at dksX1_waitsForKind_0 6 rfl rfl)
theorem dX1_waitsForKind_7 : decode cX1_waitsForKind 7 = .ok (.getfield 40, 3) := dk_180 0 40 (dk_at dksX1_waitsForKind_0 7 rfl rfl)
theorem dX1_waitsForKind_10 : decode cX1_waitsForKind 10 = .ok (.iload_n 1, 1) := dk_27 (dk_at dksX1_waitsForKind_0 10 rfl rfl)
theorem dX1_waitsForKind_11 : decode cX1_waitsForKind 11 = .ok (.invokevirtual 239, 3) := dk_182 0 239 (dk_at dksX1_waitsForKind_0 11 rfl rfl)
theorem dX1_waitsForKind_14 : decode cX1_waitsForKind 14 = .ok (.astore_n 3, 1) := dk_78 (dk_at dksX1_waitsForKind_0 14 rfl rfl)
theorem dX1_waitsForKind_15 : decode cX1_waitsForKind 15 = .ok (.aload_n 3, 1) := dk_45 (dk_at dksX1_waitsForKind_0 15 rfl rfl)
theorem dX1_waitsForKind_16 : decode cX1_waitsForKind 16 = .ok (.ifnonnull 7, 3) := dk_199 0 7 (dk_at dksX1_waitsForKind_0 16 rfl rfl)
theorem dX1_waitsForKind_19 : decode cX1_waitsForKind 19 = .ok (.iconst (-1), 1) := dk_2 (dk_at dksX1_waitsForKind_0 19 rfl rfl)
theorem dX1_waitsForKind_20 : decode cX1_waitsForKind 20 = .ok (.goto 7, 3) := dk_167 0 7 (dk_at dksX1_waitsForKind_0 20 rfl rfl)
theorem dX1_waitsForKind_23 : decode cX1_waitsForKind 23 = .ok (.aload_n 3, 1) := dk_45 (dk_at dksX1_waitsForKind_0 23 rfl rfl)
theorem dX1_waitsForKind_24 : decode cX1_waitsForKind 24 = .ok (.invokevirtual 243, 3) := dk_182 0 243 (dk_at dksX1_waitsForKind_1 0 rfl rfl)
theorem dX1_waitsForKind_27 : decode cX1_waitsForKind 27 = .ok (.ireturn, 1) := dk_172 (dk_at dksX1_waitsForKind_1 3 rfl rfl)
abbrev cX1_waitsForCount : ByteArray := prog_1_method_36_code
def yX1_waitsForCount : MethodName := ⟨RX1, "waitsForCount", "(I)I"⟩
def dkwX1_waitsForCount_1 : List UInt8 := [182, 0, 246, 172]
abbrev dktX1_waitsForCount_1 : List UInt8 := dkwX1_waitsForCount_1 ++ []
def dkwX1_waitsForCount_0 : List UInt8 := [42, 27, 182, 0, 110, 77, 42, 180, 0, 40, 27, 182, 0, 239, 78, 45, 199, 0, 7, 3, 167, 0, 7, 45]
abbrev dktX1_waitsForCount_0 : List UInt8 := dkwX1_waitsForCount_0 ++ dktX1_waitsForCount_1
theorem dksX1_waitsForCount_0 : cX1_waitsForCount.data.toList.drop 0 = dktX1_waitsForCount_0 := by decide +kernel
theorem dksX1_waitsForCount_1 : cX1_waitsForCount.data.toList.drop 24 = dktX1_waitsForCount_1 := dk_seg dksX1_waitsForCount_0 24 rfl rfl
theorem dX1_waitsForCount_0 : decode cX1_waitsForCount 0 = .ok (.aload_n 0, 1) := dk_42 (dk_at dksX1_waitsForCount_0 0 rfl rfl)
theorem dX1_waitsForCount_1 : decode cX1_waitsForCount 1 = .ok (.iload_n 1, 1) := dk_27 (dk_at dksX1_waitsForCount_0 1 rfl rfl)
theorem dX1_waitsForCount_2 : decode cX1_waitsForCount 2 = .ok (.invokevirtual 110, 3) := dk_182 0 110 (dk_at dksX1_waitsForCount_0 2 rfl rfl)
theorem dX1_waitsForCount_5 : decode cX1_waitsForCount 5 = .ok (.astore_n 2, 1) := dk_77 (dk_at dksX1_waitsForCount_0 5 rfl rfl)
theorem dX1_waitsForCount_6 : decode cX1_waitsForCount 6 = .ok (.aload_n 0, 1) := dk_42 (dk_at dksX1_waitsForCount_0 6 rfl rfl)
theorem dX1_waitsForCount_7 : decode cX1_waitsForCount 7 = .ok (.getfield 40, 3) := dk_180 0 40 (dk_at dksX1_waitsForCount_0 7 rfl rfl)
theorem dX1_waitsForCount_10 : decode cX1_waitsForCount 10 = .ok (.iload_n 1, 1) := dk_27 (dk_at dksX1_waitsForCount_0 10 rfl rfl)
theorem dX1_waitsForCount_11 : decode cX1_waitsForCount 11 = .ok (.invokevirtual 239, 3) := dk_182 0 239 (dk_at dksX1_waitsForCount_0 11 rfl rfl)
theorem dX1_waitsForCount_14 : decode cX1_waitsForCount 14 = .ok (.astore_n 3, 1) := dk_78 (dk_at dksX1_waitsForCount_0 14 rfl rfl)
theorem dX1_waitsForCount_15 : decode cX1_waitsForCount 15 = .ok (.aload_n 3, 1) := dk_45 (dk_at dksX1_waitsForCount_0 15 rfl rfl)
theorem dX1_waitsForCount_16 : decode cX1_waitsForCount 16 = .ok (.ifnonnull 7, 3) := dk_199 0 7 (dk_at dksX1_waitsForCount_0 16 rfl rfl)
theorem dX1_waitsForCount_19 : decode cX1_waitsForCount 19 = .ok (.iconst 0, 1) := dk_3 (dk_at dksX1_waitsForCount_0 19 rfl rfl)
theorem dX1_waitsForCount_20 : decode cX1_waitsForCount 20 = .ok (.goto 7, 3) := dk_167 0 7 (dk_at dksX1_waitsForCount_0 20 rfl rfl)
theorem dX1_waitsForCount_23 : decode cX1_waitsForCount 23 = .ok (.aload_n 3, 1) := dk_45 (dk_at dksX1_waitsForCount_0 23 rfl rfl)
theorem dX1_waitsForCount_24 : decode cX1_waitsForCount 24 = .ok (.invokevirtual 246, 3) := dk_182 0 246 (dk_at dksX1_waitsForCount_1 0 rfl rfl)
theorem dX1_waitsForCount_27 : decode cX1_waitsForCount 27 = .ok (.ireturn, 1) := dk_172 (dk_at dksX1_waitsForCount_1 3 rfl rfl)
abbrev cX1_waitedPrinters : ByteArray := prog_1_method_37_code
def yX1_waitedPrinters : MethodName := ⟨RX1, "waitedPrinters", "(I)I"⟩
def dkwX1_waitedPrinters_2 : List UInt8 := [182, 0, 243, 27, 160, 0, 11, 25, 4, 182, 0, 246, 167, 0, 4, 3, 96, 61, 167, 255, 215, 28, 172]
abbrev dktX1_waitedPrinters_2 : List UInt8 := dkwX1_waitedPrinters_2 ++ []
def dkwX1_waitedPrinters_1 : List UInt8 := [185, 0, 212, 1, 0, 153, 0, 38, 45, 185, 0, 218, 1, 0, 192, 0, 234, 58, 4, 28, 25, 4]
abbrev dktX1_waitedPrinters_1 : List UInt8 := dkwX1_waitedPrinters_1 ++ dktX1_waitedPrinters_2
def dkwX1_waitedPrinters_0 : List UInt8 := [42, 27, 182, 0, 106, 3, 61, 42, 180, 0, 40, 180, 0, 228, 185, 0, 208, 1, 0, 78, 45]
abbrev dktX1_waitedPrinters_0 : List UInt8 := dkwX1_waitedPrinters_0 ++ dktX1_waitedPrinters_1
theorem dksX1_waitedPrinters_0 : cX1_waitedPrinters.data.toList.drop 0 = dktX1_waitedPrinters_0 := by decide +kernel
theorem dksX1_waitedPrinters_1 : cX1_waitedPrinters.data.toList.drop 21 = dktX1_waitedPrinters_1 := dk_seg dksX1_waitedPrinters_0 21 rfl rfl
theorem dksX1_waitedPrinters_2 : cX1_waitedPrinters.data.toList.drop 43 = dktX1_waitedPrinters_2 := dk_seg dksX1_waitedPrinters_1 22 rfl rfl
theorem dX1_waitedPrinters_0 : decode cX1_waitedPrinters 0 = .ok (.aload_n 0, 1) := dk_42 (dk_at dksX1_waitedPrinters_0 0 rfl rfl)
theorem dX1_waitedPrinters_1 : decode cX1_waitedPrinters 1 = .ok (.iload_n 1, 1) := dk_27 (dk_at dksX1_waitedPrinters_0 1 rfl rfl)
theorem dX1_waitedPrinters_2 : decode cX1_waitedPrinters 2 = .ok (.invokevirtual 106, 3) := dk_182 0 106 (dk_at dksX1_waitedPrinters_0 2 rfl rfl)
theorem dX1_waitedPrinters_5 : decode cX1_waitedPrinters 5 = .ok (.iconst 0, 1) := dk_3 (dk_at dksX1_waitedPrinters_0 5 rfl rfl)
theorem dX1_waitedPrinters_6 : decode cX1_waitedPrinters 6 = .ok (.istore_n 2, 1) := dk_61 (dk_at dksX1_waitedPrinters_0 6 rfl rfl)
theorem dX1_waitedPrinters_7 : decode cX1_waitedPrinters 7 = .ok (.aload_n 0, 1) := dk_42 (dk_at dksX1_waitedPrinters_0 7 rfl rfl)
theorem dX1_waitedPrinters_8 : decode cX1_waitedPrinters 8 = .ok (.getfield 40, 3) := dk_180 0 40 (dk_at dksX1_waitedPrinters_0 8 rfl rfl)
theorem dX1_waitedPrinters_11 : decode cX1_waitedPrinters 11 = .ok (.getfield 228, 3) := dk_180 0 228 (dk_at dksX1_waitedPrinters_0 11 rfl rfl)
theorem dX1_waitedPrinters_14 : decode cX1_waitedPrinters 14 = .ok (.invokeinterface 208 1, 5) := by decide +kernel
theorem dX1_waitedPrinters_19 : decode cX1_waitedPrinters 19 = .ok (.astore_n 3, 1) := dk_78 (dk_at dksX1_waitedPrinters_0 19 rfl rfl)
theorem dX1_waitedPrinters_20 : decode cX1_waitedPrinters 20 = .ok (.aload_n 3, 1) := dk_45 (dk_at dksX1_waitedPrinters_0 20 rfl rfl)
theorem dX1_waitedPrinters_21 : decode cX1_waitedPrinters 21 = .ok (.invokeinterface 212 1, 5) := by decide +kernel
theorem dX1_waitedPrinters_26 : decode cX1_waitedPrinters 26 = .ok (.ifCond .eq 38, 3) := dk_153 0 38 (dk_at dksX1_waitedPrinters_1 5 rfl rfl)
theorem dX1_waitedPrinters_29 : decode cX1_waitedPrinters 29 = .ok (.aload_n 3, 1) := dk_45 (dk_at dksX1_waitedPrinters_1 8 rfl rfl)
theorem dX1_waitedPrinters_30 : decode cX1_waitedPrinters 30 = .ok (.invokeinterface 218 1, 5) := by decide +kernel
theorem dX1_waitedPrinters_35 : decode cX1_waitedPrinters 35 = .ok (.checkcast 234, 3) := dk_192 0 234 (dk_at dksX1_waitedPrinters_1 14 rfl rfl)
theorem dX1_waitedPrinters_38 : decode cX1_waitedPrinters 38 = .ok (.astore 4, 2) := dk_58 4 (dk_at dksX1_waitedPrinters_1 17 rfl rfl)
theorem dX1_waitedPrinters_40 : decode cX1_waitedPrinters 40 = .ok (.iload_n 2, 1) := dk_28 (dk_at dksX1_waitedPrinters_1 19 rfl rfl)
theorem dX1_waitedPrinters_41 : decode cX1_waitedPrinters 41 = .ok (.aload 4, 2) := dk_25 4 (dk_at dksX1_waitedPrinters_1 20 rfl rfl)
theorem dX1_waitedPrinters_43 : decode cX1_waitedPrinters 43 = .ok (.invokevirtual 243, 3) := dk_182 0 243 (dk_at dksX1_waitedPrinters_2 0 rfl rfl)
theorem dX1_waitedPrinters_46 : decode cX1_waitedPrinters 46 = .ok (.iload_n 1, 1) := dk_27 (dk_at dksX1_waitedPrinters_2 3 rfl rfl)
theorem dX1_waitedPrinters_47 : decode cX1_waitedPrinters 47 = .ok (.if_icmp .ne 11, 3) := dk_160 0 11 (dk_at dksX1_waitedPrinters_2 4 rfl rfl)
theorem dX1_waitedPrinters_50 : decode cX1_waitedPrinters 50 = .ok (.aload 4, 2) := dk_25 4 (dk_at dksX1_waitedPrinters_2 7 rfl rfl)
theorem dX1_waitedPrinters_52 : decode cX1_waitedPrinters 52 = .ok (.invokevirtual 246, 3) := dk_182 0 246 (dk_at dksX1_waitedPrinters_2 9 rfl rfl)
theorem dX1_waitedPrinters_55 : decode cX1_waitedPrinters 55 = .ok (.goto 4, 3) := dk_167 0 4 (dk_at dksX1_waitedPrinters_2 12 rfl rfl)
theorem dX1_waitedPrinters_58 : decode cX1_waitedPrinters 58 = .ok (.iconst 0, 1) := dk_3 (dk_at dksX1_waitedPrinters_2 15 rfl rfl)
theorem dX1_waitedPrinters_59 : decode cX1_waitedPrinters 59 = .ok (.iadd, 1) := dk_96 (dk_at dksX1_waitedPrinters_2 16 rfl rfl)
theorem dX1_waitedPrinters_60 : decode cX1_waitedPrinters 60 = .ok (.istore_n 2, 1) := dk_61 (dk_at dksX1_waitedPrinters_2 17 rfl rfl)
theorem dX1_waitedPrinters_61 : decode cX1_waitedPrinters 61 = .ok (.goto (-41), 3) := dk_167 255 215 (dk_at dksX1_waitedPrinters_2 18 rfl rfl)
theorem dX1_waitedPrinters_64 : decode cX1_waitedPrinters 64 = .ok (.iload_n 2, 1) := dk_28 (dk_at dksX1_waitedPrinters_2 21 rfl rfl)
theorem dX1_waitedPrinters_65 : decode cX1_waitedPrinters 65 = .ok (.ireturn, 1) := dk_172 (dk_at dksX1_waitedPrinters_2 22 rfl rfl)
abbrev cX1_waitReason : ByteArray := prog_1_method_38_code
def yX1_waitReason : MethodName := ⟨RX1, "waitReason", "(I)I"⟩
def dkwX1_waitReason_1 : List UInt8 := [180, 0, 40, 45, 182, 0, 243, 182, 0, 174, 45, 182, 0, 246, 162, 0, 7, 4, 167, 0, 4, 5, 172]
abbrev dktX1_waitReason_1 : List UInt8 := dkwX1_waitReason_1 ++ []
def dkwX1_waitReason_0 : List UInt8 := [42, 27, 182, 0, 110, 77, 42, 180, 0, 40, 27, 182, 0, 239, 78, 45, 199, 0, 5, 3, 172, 42]
abbrev dktX1_waitReason_0 : List UInt8 := dkwX1_waitReason_0 ++ dktX1_waitReason_1
theorem dksX1_waitReason_0 : cX1_waitReason.data.toList.drop 0 = dktX1_waitReason_0 := by decide +kernel
theorem dksX1_waitReason_1 : cX1_waitReason.data.toList.drop 22 = dktX1_waitReason_1 := dk_seg dksX1_waitReason_0 22 rfl rfl
theorem dX1_waitReason_0 : decode cX1_waitReason 0 = .ok (.aload_n 0, 1) := dk_42 (dk_at dksX1_waitReason_0 0 rfl rfl)
theorem dX1_waitReason_1 : decode cX1_waitReason 1 = .ok (.iload_n 1, 1) := dk_27 (dk_at dksX1_waitReason_0 1 rfl rfl)
theorem dX1_waitReason_2 : decode cX1_waitReason 2 = .ok (.invokevirtual 110, 3) := dk_182 0 110 (dk_at dksX1_waitReason_0 2 rfl rfl)
theorem dX1_waitReason_5 : decode cX1_waitReason 5 = .ok (.astore_n 2, 1) := dk_77 (dk_at dksX1_waitReason_0 5 rfl rfl)
theorem dX1_waitReason_6 : decode cX1_waitReason 6 = .ok (.aload_n 0, 1) := dk_42 (dk_at dksX1_waitReason_0 6 rfl rfl)
theorem dX1_waitReason_7 : decode cX1_waitReason 7 = .ok (.getfield 40, 3) := dk_180 0 40 (dk_at dksX1_waitReason_0 7 rfl rfl)
theorem dX1_waitReason_10 : decode cX1_waitReason 10 = .ok (.iload_n 1, 1) := dk_27 (dk_at dksX1_waitReason_0 10 rfl rfl)
theorem dX1_waitReason_11 : decode cX1_waitReason 11 = .ok (.invokevirtual 239, 3) := dk_182 0 239 (dk_at dksX1_waitReason_0 11 rfl rfl)
theorem dX1_waitReason_14 : decode cX1_waitReason 14 = .ok (.astore_n 3, 1) := dk_78 (dk_at dksX1_waitReason_0 14 rfl rfl)
theorem dX1_waitReason_15 : decode cX1_waitReason 15 = .ok (.aload_n 3, 1) := dk_45 (dk_at dksX1_waitReason_0 15 rfl rfl)
theorem dX1_waitReason_16 : decode cX1_waitReason 16 = .ok (.ifnonnull 5, 3) := dk_199 0 5 (dk_at dksX1_waitReason_0 16 rfl rfl)
theorem dX1_waitReason_19 : decode cX1_waitReason 19 = .ok (.iconst 0, 1) := dk_3 (dk_at dksX1_waitReason_0 19 rfl rfl)
theorem dX1_waitReason_20 : decode cX1_waitReason 20 = .ok (.ireturn, 1) := dk_172 (dk_at dksX1_waitReason_0 20 rfl rfl)
theorem dX1_waitReason_21 : decode cX1_waitReason 21 = .ok (.aload_n 0, 1) := dk_42 (dk_at dksX1_waitReason_0 21 rfl rfl)
theorem dX1_waitReason_22 : decode cX1_waitReason 22 = .ok (.getfield 40, 3) := dk_180 0 40 (dk_at dksX1_waitReason_1 0 rfl rfl)
theorem dX1_waitReason_25 : decode cX1_waitReason 25 = .ok (.aload_n 3, 1) := dk_45 (dk_at dksX1_waitReason_1 3 rfl rfl)
theorem dX1_waitReason_26 : decode cX1_waitReason 26 = .ok (.invokevirtual 243, 3) := dk_182 0 243 (dk_at dksX1_waitReason_1 4 rfl rfl)
theorem dX1_waitReason_29 : decode cX1_waitReason 29 = .ok (.invokevirtual 174, 3) := dk_182 0 174 (dk_at dksX1_waitReason_1 7 rfl rfl)
theorem dX1_waitReason_32 : decode cX1_waitReason 32 = .ok (.aload_n 3, 1) := dk_45 (dk_at dksX1_waitReason_1 10 rfl rfl)
theorem dX1_waitReason_33 : decode cX1_waitReason 33 = .ok (.invokevirtual 246, 3) := dk_182 0 246 (dk_at dksX1_waitReason_1 11 rfl rfl)
theorem dX1_waitReason_36 : decode cX1_waitReason 36 = .ok (.if_icmp .ge 7, 3) := dk_162 0 7 (dk_at dksX1_waitReason_1 14 rfl rfl)
theorem dX1_waitReason_39 : decode cX1_waitReason 39 = .ok (.iconst 1, 1) := dk_4 (dk_at dksX1_waitReason_1 17 rfl rfl)
theorem dX1_waitReason_40 : decode cX1_waitReason 40 = .ok (.goto 4, 3) := dk_167 0 4 (dk_at dksX1_waitReason_1 18 rfl rfl)
theorem dX1_waitReason_43 : decode cX1_waitReason 43 = .ok (.iconst 2, 1) := dk_5 (dk_at dksX1_waitReason_1 21 rfl rfl)
theorem dX1_waitReason_44 : decode cX1_waitReason 44 = .ok (.ireturn, 1) := dk_172 (dk_at dksX1_waitReason_1 22 rfl rfl)
abbrev cX1_sequenceOffice : ByteArray := prog_1_method_39_code
def yX1_sequenceOffice : MethodName := ⟨RX1, "sequenceOffice", "(I)I"⟩
def dkwX1_sequenceOffice_0 : List UInt8 := [42, 27, 182, 0, 249, 187, 0, 252, 89, 42, 180, 0, 40, 2, 183, 0, 254, 180, 1, 1, 27, 46, 172]
abbrev dktX1_sequenceOffice_0 : List UInt8 := dkwX1_sequenceOffice_0 ++ []
theorem dksX1_sequenceOffice_0 : cX1_sequenceOffice.data.toList.drop 0 = dktX1_sequenceOffice_0 := by decide +kernel
theorem dX1_sequenceOffice_0 : decode cX1_sequenceOffice 0 = .ok (.aload_n 0, 1) := dk_42 (dk_at dksX1_sequenceOffice_0 0 rfl rfl)
theorem dX1_sequenceOffice_1 : decode cX1_sequenceOffice 1 = .ok (.iload_n 1, 1) := dk_27 (dk_at dksX1_sequenceOffice_0 1 rfl rfl)
theorem dX1_sequenceOffice_2 : decode cX1_sequenceOffice 2 = .ok (.invokevirtual 249, 3) := dk_182 0 249 (dk_at dksX1_sequenceOffice_0 2 rfl rfl)
theorem dX1_sequenceOffice_5 : decode cX1_sequenceOffice 5 = .ok (.new 252, 3) := dk_187 0 252 (dk_at dksX1_sequenceOffice_0 5 rfl rfl)
theorem dX1_sequenceOffice_8 : decode cX1_sequenceOffice 8 = .ok (.dup, 1) := dk_89 (dk_at dksX1_sequenceOffice_0 8 rfl rfl)
theorem dX1_sequenceOffice_9 : decode cX1_sequenceOffice 9 = .ok (.aload_n 0, 1) := dk_42 (dk_at dksX1_sequenceOffice_0 9 rfl rfl)
theorem dX1_sequenceOffice_10 : decode cX1_sequenceOffice 10 = .ok (.getfield 40, 3) := dk_180 0 40 (dk_at dksX1_sequenceOffice_0 10 rfl rfl)
theorem dX1_sequenceOffice_13 : decode cX1_sequenceOffice 13 = .ok (.iconst (-1), 1) := dk_2 (dk_at dksX1_sequenceOffice_0 13 rfl rfl)
theorem dX1_sequenceOffice_14 : decode cX1_sequenceOffice 14 = .ok (.invokespecial 254, 3) := dk_183 0 254 (dk_at dksX1_sequenceOffice_0 14 rfl rfl)
theorem dX1_sequenceOffice_17 : decode cX1_sequenceOffice 17 = .ok (.getfield 257, 3) := dk_180 1 1 (dk_at dksX1_sequenceOffice_0 17 rfl rfl)
theorem dX1_sequenceOffice_20 : decode cX1_sequenceOffice 20 = .ok (.iload_n 1, 1) := dk_27 (dk_at dksX1_sequenceOffice_0 20 rfl rfl)
theorem dX1_sequenceOffice_21 : decode cX1_sequenceOffice 21 = .ok (.iaload, 1) := dk_46 (dk_at dksX1_sequenceOffice_0 21 rfl rfl)
theorem dX1_sequenceOffice_22 : decode cX1_sequenceOffice 22 = .ok (.ireturn, 1) := dk_172 (dk_at dksX1_sequenceOffice_0 22 rfl rfl)
abbrev cX1_requirePlace : ByteArray := prog_1_method_12_code
def yX1_requirePlace : MethodName := ⟨RX1, "requirePlace", "(I)V"⟩
def dkwX1_requirePlace_1 : List UInt8 := [187, 0, 96, 89, 183, 0, 98, 191, 177]
abbrev dktX1_requirePlace_1 : List UInt8 := dkwX1_requirePlace_1 ++ []
def dkwX1_requirePlace_0 : List UInt8 := [27, 3, 42, 180, 0, 40, 180, 0, 113, 185, 0, 117, 1, 0, 4, 100, 184, 0, 120, 154, 0, 11]
abbrev dktX1_requirePlace_0 : List UInt8 := dkwX1_requirePlace_0 ++ dktX1_requirePlace_1
theorem dksX1_requirePlace_0 : cX1_requirePlace.data.toList.drop 0 = dktX1_requirePlace_0 := by decide +kernel
theorem dksX1_requirePlace_1 : cX1_requirePlace.data.toList.drop 22 = dktX1_requirePlace_1 := dk_seg dksX1_requirePlace_0 22 rfl rfl
theorem dX1_requirePlace_0 : decode cX1_requirePlace 0 = .ok (.iload_n 1, 1) := dk_27 (dk_at dksX1_requirePlace_0 0 rfl rfl)
theorem dX1_requirePlace_1 : decode cX1_requirePlace 1 = .ok (.iconst 0, 1) := dk_3 (dk_at dksX1_requirePlace_0 1 rfl rfl)
theorem dX1_requirePlace_2 : decode cX1_requirePlace 2 = .ok (.aload_n 0, 1) := dk_42 (dk_at dksX1_requirePlace_0 2 rfl rfl)
theorem dX1_requirePlace_3 : decode cX1_requirePlace 3 = .ok (.getfield 40, 3) := dk_180 0 40 (dk_at dksX1_requirePlace_0 3 rfl rfl)
theorem dX1_requirePlace_6 : decode cX1_requirePlace 6 = .ok (.getfield 113, 3) := dk_180 0 113 (dk_at dksX1_requirePlace_0 6 rfl rfl)
theorem dX1_requirePlace_9 : decode cX1_requirePlace 9 = .ok (.invokeinterface 117 1, 5) := by decide +kernel
theorem dX1_requirePlace_14 : decode cX1_requirePlace 14 = .ok (.iconst 1, 1) := dk_4 (dk_at dksX1_requirePlace_0 14 rfl rfl)
theorem dX1_requirePlace_15 : decode cX1_requirePlace 15 = .ok (.isub, 1) := dk_100 (dk_at dksX1_requirePlace_0 15 rfl rfl)
theorem dX1_requirePlace_16 : decode cX1_requirePlace 16 = .ok (.invokestatic 120, 3) := dk_184 0 120 (dk_at dksX1_requirePlace_0 16 rfl rfl)
theorem dX1_requirePlace_19 : decode cX1_requirePlace 19 = .ok (.ifCond .ne 11, 3) := dk_154 0 11 (dk_at dksX1_requirePlace_0 19 rfl rfl)
theorem dX1_requirePlace_22 : decode cX1_requirePlace 22 = .ok (.new 96, 3) := dk_187 0 96 (dk_at dksX1_requirePlace_1 0 rfl rfl)
theorem dX1_requirePlace_25 : decode cX1_requirePlace 25 = .ok (.dup, 1) := dk_89 (dk_at dksX1_requirePlace_1 3 rfl rfl)
theorem dX1_requirePlace_26 : decode cX1_requirePlace 26 = .ok (.invokespecial 98, 3) := dk_183 0 98 (dk_at dksX1_requirePlace_1 4 rfl rfl)
theorem dX1_requirePlace_29 : decode cX1_requirePlace 29 = .ok (.athrow, 1) := dk_191 (dk_at dksX1_requirePlace_1 7 rfl rfl)
theorem dX1_requirePlace_30 : decode cX1_requirePlace 30 = .ok (.return_, 1) := dk_177 (dk_at dksX1_requirePlace_1 8 rfl rfl)
abbrev cX1_sequenceAvailable : ByteArray := prog_1_method_40_code
def yX1_sequenceAvailable : MethodName := ⟨RX1, "sequenceAvailable", "(II)I"⟩
def dkwX1_sequenceAvailable_1 : List UInt8 := [180, 1, 4, 28, 46, 172]
abbrev dktX1_sequenceAvailable_1 : List UInt8 := dkwX1_sequenceAvailable_1 ++ []
def dkwX1_sequenceAvailable_0 : List UInt8 := [42, 27, 182, 0, 249, 42, 28, 182, 0, 106, 187, 0, 252, 89, 42, 180, 0, 40, 27, 183, 0, 254]
abbrev dktX1_sequenceAvailable_0 : List UInt8 := dkwX1_sequenceAvailable_0 ++ dktX1_sequenceAvailable_1
theorem dksX1_sequenceAvailable_0 : cX1_sequenceAvailable.data.toList.drop 0 = dktX1_sequenceAvailable_0 := by decide +kernel
theorem dksX1_sequenceAvailable_1 : cX1_sequenceAvailable.data.toList.drop 22 = dktX1_sequenceAvailable_1 := dk_seg dksX1_sequenceAvailable_0 22 rfl rfl
theorem dX1_sequenceAvailable_0 : decode cX1_sequenceAvailable 0 = .ok (.aload_n 0, 1) := dk_42 (dk_at dksX1_sequenceAvailable_0 0 rfl rfl)
theorem dX1_sequenceAvailable_1 : decode cX1_sequenceAvailable 1 = .ok (.iload_n 1, 1) := dk_27 (dk_at dksX1_sequenceAvailable_0 1 rfl rfl)
theorem dX1_sequenceAvailable_2 : decode cX1_sequenceAvailable 2 = .ok (.invokevirtual 249, 3) := dk_182 0 249 (dk_at dksX1_sequenceAvailable_0 2 rfl rfl)
theorem dX1_sequenceAvailable_5 : decode cX1_sequenceAvailable 5 = .ok (.aload_n 0, 1) := dk_42 (dk_at dksX1_sequenceAvailable_0 5 rfl rfl)
theorem dX1_sequenceAvailable_6 : decode cX1_sequenceAvailable 6 = .ok (.iload_n 2, 1) := dk_28 (dk_at dksX1_sequenceAvailable_0 6 rfl rfl)
theorem dX1_sequenceAvailable_7 : decode cX1_sequenceAvailable 7 = .ok (.invokevirtual 106, 3) := dk_182 0 106 (dk_at dksX1_sequenceAvailable_0 7 rfl rfl)
theorem dX1_sequenceAvailable_10 : decode cX1_sequenceAvailable 10 = .ok (.new 252, 3) := dk_187 0 252 (dk_at dksX1_sequenceAvailable_0 10 rfl rfl)
theorem dX1_sequenceAvailable_13 : decode cX1_sequenceAvailable 13 = .ok (.dup, 1) := dk_89 (dk_at dksX1_sequenceAvailable_0 13 rfl rfl)
theorem dX1_sequenceAvailable_14 : decode cX1_sequenceAvailable 14 = .ok (.aload_n 0, 1) := dk_42 (dk_at dksX1_sequenceAvailable_0 14 rfl rfl)
theorem dX1_sequenceAvailable_15 : decode cX1_sequenceAvailable 15 = .ok (.getfield 40, 3) := dk_180 0 40 (dk_at dksX1_sequenceAvailable_0 15 rfl rfl)
theorem dX1_sequenceAvailable_18 : decode cX1_sequenceAvailable 18 = .ok (.iload_n 1, 1) := dk_27 (dk_at dksX1_sequenceAvailable_0 18 rfl rfl)
theorem dX1_sequenceAvailable_19 : decode cX1_sequenceAvailable 19 = .ok (.invokespecial 254, 3) := dk_183 0 254 (dk_at dksX1_sequenceAvailable_0 19 rfl rfl)
theorem dX1_sequenceAvailable_22 : decode cX1_sequenceAvailable 22 = .ok (.getfield 260, 3) := dk_180 1 4 (dk_at dksX1_sequenceAvailable_1 0 rfl rfl)
theorem dX1_sequenceAvailable_25 : decode cX1_sequenceAvailable 25 = .ok (.iload_n 2, 1) := dk_28 (dk_at dksX1_sequenceAvailable_1 3 rfl rfl)
theorem dX1_sequenceAvailable_26 : decode cX1_sequenceAvailable 26 = .ok (.iaload, 1) := dk_46 (dk_at dksX1_sequenceAvailable_1 4 rfl rfl)
theorem dX1_sequenceAvailable_27 : decode cX1_sequenceAvailable 27 = .ok (.ireturn, 1) := dk_172 (dk_at dksX1_sequenceAvailable_1 5 rfl rfl)
abbrev cX1_earliestPlace : ByteArray := prog_1_method_42_code
def yX1_earliestPlace : MethodName := ⟨RX1, "earliestPlace", "(I)I"⟩
def dkwX1_earliestPlace_0 : List UInt8 := [42, 27, 182, 0, 110, 77, 187, 1, 7, 89, 42, 180, 0, 40, 183, 1, 9, 27, 182, 1, 14, 172]
abbrev dktX1_earliestPlace_0 : List UInt8 := dkwX1_earliestPlace_0 ++ []
theorem dksX1_earliestPlace_0 : cX1_earliestPlace.data.toList.drop 0 = dktX1_earliestPlace_0 := by decide +kernel
theorem dX1_earliestPlace_0 : decode cX1_earliestPlace 0 = .ok (.aload_n 0, 1) := dk_42 (dk_at dksX1_earliestPlace_0 0 rfl rfl)
theorem dX1_earliestPlace_1 : decode cX1_earliestPlace 1 = .ok (.iload_n 1, 1) := dk_27 (dk_at dksX1_earliestPlace_0 1 rfl rfl)
theorem dX1_earliestPlace_2 : decode cX1_earliestPlace 2 = .ok (.invokevirtual 110, 3) := dk_182 0 110 (dk_at dksX1_earliestPlace_0 2 rfl rfl)
theorem dX1_earliestPlace_5 : decode cX1_earliestPlace 5 = .ok (.astore_n 2, 1) := dk_77 (dk_at dksX1_earliestPlace_0 5 rfl rfl)
theorem dX1_earliestPlace_6 : decode cX1_earliestPlace 6 = .ok (.new 263, 3) := dk_187 1 7 (dk_at dksX1_earliestPlace_0 6 rfl rfl)
theorem dX1_earliestPlace_9 : decode cX1_earliestPlace 9 = .ok (.dup, 1) := dk_89 (dk_at dksX1_earliestPlace_0 9 rfl rfl)
theorem dX1_earliestPlace_10 : decode cX1_earliestPlace 10 = .ok (.aload_n 0, 1) := dk_42 (dk_at dksX1_earliestPlace_0 10 rfl rfl)
theorem dX1_earliestPlace_11 : decode cX1_earliestPlace 11 = .ok (.getfield 40, 3) := dk_180 0 40 (dk_at dksX1_earliestPlace_0 11 rfl rfl)
theorem dX1_earliestPlace_14 : decode cX1_earliestPlace 14 = .ok (.invokespecial 265, 3) := dk_183 1 9 (dk_at dksX1_earliestPlace_0 14 rfl rfl)
theorem dX1_earliestPlace_17 : decode cX1_earliestPlace 17 = .ok (.iload_n 1, 1) := dk_27 (dk_at dksX1_earliestPlace_0 17 rfl rfl)
theorem dX1_earliestPlace_18 : decode cX1_earliestPlace 18 = .ok (.invokevirtual 270, 3) := dk_182 1 14 (dk_at dksX1_earliestPlace_0 18 rfl rfl)
theorem dX1_earliestPlace_21 : decode cX1_earliestPlace 21 = .ok (.ireturn, 1) := dk_172 (dk_at dksX1_earliestPlace_0 21 rfl rfl)
abbrev cX1_requestObstacle : ByteArray := prog_1_method_43_code
def yX1_requestObstacle : MethodName := ⟨RX1, "requestObstacle", "(III)I"⟩
def dkwX1_requestObstacle_1 : List UInt8 := [182, 1, 17, 172]
abbrev dktX1_requestObstacle_1 : List UInt8 := dkwX1_requestObstacle_1 ++ []
def dkwX1_requestObstacle_0 : List UInt8 := [42, 27, 28, 182, 0, 188, 58, 4, 42, 29, 4, 16, 20, 182, 0, 133, 42, 180, 0, 40, 27, 28, 29]
abbrev dktX1_requestObstacle_0 : List UInt8 := dkwX1_requestObstacle_0 ++ dktX1_requestObstacle_1
theorem dksX1_requestObstacle_0 : cX1_requestObstacle.data.toList.drop 0 = dktX1_requestObstacle_0 := by decide +kernel
theorem dksX1_requestObstacle_1 : cX1_requestObstacle.data.toList.drop 23 = dktX1_requestObstacle_1 := dk_seg dksX1_requestObstacle_0 23 rfl rfl
theorem dX1_requestObstacle_0 : decode cX1_requestObstacle 0 = .ok (.aload_n 0, 1) := dk_42 (dk_at dksX1_requestObstacle_0 0 rfl rfl)
theorem dX1_requestObstacle_1 : decode cX1_requestObstacle 1 = .ok (.iload_n 1, 1) := dk_27 (dk_at dksX1_requestObstacle_0 1 rfl rfl)
theorem dX1_requestObstacle_2 : decode cX1_requestObstacle 2 = .ok (.iload_n 2, 1) := dk_28 (dk_at dksX1_requestObstacle_0 2 rfl rfl)
theorem dX1_requestObstacle_3 : decode cX1_requestObstacle 3 = .ok (.invokevirtual 188, 3) := dk_182 0 188 (dk_at dksX1_requestObstacle_0 3 rfl rfl)
theorem dX1_requestObstacle_6 : decode cX1_requestObstacle 6 = .ok (.astore 4, 2) := dk_58 4 (dk_at dksX1_requestObstacle_0 6 rfl rfl)
theorem dX1_requestObstacle_8 : decode cX1_requestObstacle 8 = .ok (.aload_n 0, 1) := dk_42 (dk_at dksX1_requestObstacle_0 8 rfl rfl)
theorem dX1_requestObstacle_9 : decode cX1_requestObstacle 9 = .ok (.iload_n 3, 1) := dk_29 (dk_at dksX1_requestObstacle_0 9 rfl rfl)
theorem dX1_requestObstacle_10 : decode cX1_requestObstacle 10 = .ok (.iconst 1, 1) := dk_4 (dk_at dksX1_requestObstacle_0 10 rfl rfl)
theorem dX1_requestObstacle_11 : decode cX1_requestObstacle 11 = .ok (.bipush 20, 2) := dk_16 20 (dk_at dksX1_requestObstacle_0 11 rfl rfl)
theorem dX1_requestObstacle_13 : decode cX1_requestObstacle 13 = .ok (.invokevirtual 133, 3) := dk_182 0 133 (dk_at dksX1_requestObstacle_0 13 rfl rfl)
theorem dX1_requestObstacle_16 : decode cX1_requestObstacle 16 = .ok (.aload_n 0, 1) := dk_42 (dk_at dksX1_requestObstacle_0 16 rfl rfl)
theorem dX1_requestObstacle_17 : decode cX1_requestObstacle 17 = .ok (.getfield 40, 3) := dk_180 0 40 (dk_at dksX1_requestObstacle_0 17 rfl rfl)
theorem dX1_requestObstacle_20 : decode cX1_requestObstacle 20 = .ok (.iload_n 1, 1) := dk_27 (dk_at dksX1_requestObstacle_0 20 rfl rfl)
theorem dX1_requestObstacle_21 : decode cX1_requestObstacle 21 = .ok (.iload_n 2, 1) := dk_28 (dk_at dksX1_requestObstacle_0 21 rfl rfl)
theorem dX1_requestObstacle_22 : decode cX1_requestObstacle 22 = .ok (.iload_n 3, 1) := dk_29 (dk_at dksX1_requestObstacle_0 22 rfl rfl)
theorem dX1_requestObstacle_23 : decode cX1_requestObstacle 23 = .ok (.invokevirtual 273, 3) := dk_182 1 17 (dk_at dksX1_requestObstacle_1 0 rfl rfl)
theorem dX1_requestObstacle_26 : decode cX1_requestObstacle 26 = .ok (.ireturn, 1) := dk_172 (dk_at dksX1_requestObstacle_1 3 rfl rfl)
abbrev cX1_greatestGrant : ByteArray := prog_1_method_44_code
def yX1_greatestGrant : MethodName := ⟨RX1, "greatestGrant", "(II)I"⟩
def dkwX1_greatestGrant_0 : List UInt8 := [42, 27, 28, 182, 0, 188, 78, 42, 180, 0, 40, 27, 28, 182, 1, 21, 172]
abbrev dktX1_greatestGrant_0 : List UInt8 := dkwX1_greatestGrant_0 ++ []
theorem dksX1_greatestGrant_0 : cX1_greatestGrant.data.toList.drop 0 = dktX1_greatestGrant_0 := by decide +kernel
theorem dX1_greatestGrant_0 : decode cX1_greatestGrant 0 = .ok (.aload_n 0, 1) := dk_42 (dk_at dksX1_greatestGrant_0 0 rfl rfl)
theorem dX1_greatestGrant_1 : decode cX1_greatestGrant 1 = .ok (.iload_n 1, 1) := dk_27 (dk_at dksX1_greatestGrant_0 1 rfl rfl)
theorem dX1_greatestGrant_2 : decode cX1_greatestGrant 2 = .ok (.iload_n 2, 1) := dk_28 (dk_at dksX1_greatestGrant_0 2 rfl rfl)
theorem dX1_greatestGrant_3 : decode cX1_greatestGrant 3 = .ok (.invokevirtual 188, 3) := dk_182 0 188 (dk_at dksX1_greatestGrant_0 3 rfl rfl)
theorem dX1_greatestGrant_6 : decode cX1_greatestGrant 6 = .ok (.astore_n 3, 1) := dk_78 (dk_at dksX1_greatestGrant_0 6 rfl rfl)
theorem dX1_greatestGrant_7 : decode cX1_greatestGrant 7 = .ok (.aload_n 0, 1) := dk_42 (dk_at dksX1_greatestGrant_0 7 rfl rfl)
theorem dX1_greatestGrant_8 : decode cX1_greatestGrant 8 = .ok (.getfield 40, 3) := dk_180 0 40 (dk_at dksX1_greatestGrant_0 8 rfl rfl)
theorem dX1_greatestGrant_11 : decode cX1_greatestGrant 11 = .ok (.iload_n 1, 1) := dk_27 (dk_at dksX1_greatestGrant_0 11 rfl rfl)
theorem dX1_greatestGrant_12 : decode cX1_greatestGrant 12 = .ok (.iload_n 2, 1) := dk_28 (dk_at dksX1_greatestGrant_0 12 rfl rfl)
theorem dX1_greatestGrant_13 : decode cX1_greatestGrant 13 = .ok (.invokevirtual 277, 3) := dk_182 1 21 (dk_at dksX1_greatestGrant_0 13 rfl rfl)
theorem dX1_greatestGrant_16 : decode cX1_greatestGrant 16 = .ok (.ireturn, 1) := dk_172 (dk_at dksX1_greatestGrant_0 16 rfl rfl)
abbrev cX1_spare : ByteArray := prog_1_method_45_code
def yX1_spare : MethodName := ⟨RX1, "spare", "(I)I"⟩
def dkwX1_spare_0 : List UInt8 := [42, 27, 182, 0, 106, 42, 180, 0, 40, 27, 182, 1, 24, 172]
abbrev dktX1_spare_0 : List UInt8 := dkwX1_spare_0 ++ []
theorem dksX1_spare_0 : cX1_spare.data.toList.drop 0 = dktX1_spare_0 := by decide +kernel
theorem dX1_spare_0 : decode cX1_spare 0 = .ok (.aload_n 0, 1) := dk_42 (dk_at dksX1_spare_0 0 rfl rfl)
theorem dX1_spare_1 : decode cX1_spare 1 = .ok (.iload_n 1, 1) := dk_27 (dk_at dksX1_spare_0 1 rfl rfl)
theorem dX1_spare_2 : decode cX1_spare 2 = .ok (.invokevirtual 106, 3) := dk_182 0 106 (dk_at dksX1_spare_0 2 rfl rfl)
theorem dX1_spare_5 : decode cX1_spare 5 = .ok (.aload_n 0, 1) := dk_42 (dk_at dksX1_spare_0 5 rfl rfl)
theorem dX1_spare_6 : decode cX1_spare 6 = .ok (.getfield 40, 3) := dk_180 0 40 (dk_at dksX1_spare_0 6 rfl rfl)
theorem dX1_spare_9 : decode cX1_spare 9 = .ok (.iload_n 1, 1) := dk_27 (dk_at dksX1_spare_0 9 rfl rfl)
theorem dX1_spare_10 : decode cX1_spare 10 = .ok (.invokevirtual 280, 3) := dk_182 1 24 (dk_at dksX1_spare_0 10 rfl rfl)
theorem dX1_spare_13 : decode cX1_spare 13 = .ok (.ireturn, 1) := dk_172 (dk_at dksX1_spare_0 13 rfl rfl)
abbrev cX1_wouldWake : ByteArray := prog_1_method_46_code
def yX1_wouldWake : MethodName := ⟨RX1, "wouldWake", "(I)I"⟩
def dkwX1_wouldWake_0 : List UInt8 := [42, 27, 182, 0, 110, 77, 42, 180, 0, 40, 182, 0, 68, 27, 182, 1, 27, 172]
abbrev dktX1_wouldWake_0 : List UInt8 := dkwX1_wouldWake_0 ++ []
theorem dksX1_wouldWake_0 : cX1_wouldWake.data.toList.drop 0 = dktX1_wouldWake_0 := by decide +kernel
theorem dX1_wouldWake_0 : decode cX1_wouldWake 0 = .ok (.aload_n 0, 1) := dk_42 (dk_at dksX1_wouldWake_0 0 rfl rfl)
theorem dX1_wouldWake_1 : decode cX1_wouldWake 1 = .ok (.iload_n 1, 1) := dk_27 (dk_at dksX1_wouldWake_0 1 rfl rfl)
theorem dX1_wouldWake_2 : decode cX1_wouldWake 2 = .ok (.invokevirtual 110, 3) := dk_182 0 110 (dk_at dksX1_wouldWake_0 2 rfl rfl)
theorem dX1_wouldWake_5 : decode cX1_wouldWake 5 = .ok (.astore_n 2, 1) := dk_77 (dk_at dksX1_wouldWake_0 5 rfl rfl)
theorem dX1_wouldWake_6 : decode cX1_wouldWake 6 = .ok (.aload_n 0, 1) := dk_42 (dk_at dksX1_wouldWake_0 6 rfl rfl)
theorem dX1_wouldWake_7 : decode cX1_wouldWake 7 = .ok (.getfield 40, 3) := dk_180 0 40 (dk_at dksX1_wouldWake_0 7 rfl rfl)
theorem dX1_wouldWake_10 : decode cX1_wouldWake 10 = .ok (.invokevirtual 68, 3) := dk_182 0 68 (dk_at dksX1_wouldWake_0 10 rfl rfl)
theorem dX1_wouldWake_13 : decode cX1_wouldWake 13 = .ok (.iload_n 1, 1) := dk_27 (dk_at dksX1_wouldWake_0 13 rfl rfl)
theorem dX1_wouldWake_14 : decode cX1_wouldWake 14 = .ok (.invokevirtual 283, 3) := dk_182 1 27 (dk_at dksX1_wouldWake_0 14 rfl rfl)
theorem dX1_wouldWake_17 : decode cX1_wouldWake 17 = .ok (.ireturn, 1) := dk_172 (dk_at dksX1_wouldWake_0 17 rfl rfl)
abbrev cX1_request : ByteArray := prog_1_method_53_code
def yX1_request : MethodName := ⟨RX1, "request", "(III)I"⟩
def dkwX1_request_0 : List UInt8 := [42, 27, 28, 29, 184, 1, 53, 182, 1, 57, 172]
abbrev dktX1_request_0 : List UInt8 := dkwX1_request_0 ++ []
theorem dksX1_request_0 : cX1_request.data.toList.drop 0 = dktX1_request_0 := by decide +kernel
theorem dX1_request_0 : decode cX1_request 0 = .ok (.aload_n 0, 1) := dk_42 (dk_at dksX1_request_0 0 rfl rfl)
theorem dX1_request_1 : decode cX1_request 1 = .ok (.iload_n 1, 1) := dk_27 (dk_at dksX1_request_0 1 rfl rfl)
theorem dX1_request_2 : decode cX1_request 2 = .ok (.iload_n 2, 1) := dk_28 (dk_at dksX1_request_0 2 rfl rfl)
theorem dX1_request_3 : decode cX1_request 3 = .ok (.iload_n 3, 1) := dk_29 (dk_at dksX1_request_0 3 rfl rfl)
theorem dX1_request_4 : decode cX1_request 4 = .ok (.invokestatic 309, 3) := dk_184 1 53 (dk_at dksX1_request_0 4 rfl rfl)
theorem dX1_request_7 : decode cX1_request 7 = .ok (.invokevirtual 313, 3) := dk_182 1 57 (dk_at dksX1_request_0 7 rfl rfl)
theorem dX1_request_10 : decode cX1_request 10 = .ok (.ireturn, 1) := dk_172 (dk_at dksX1_request_0 10 rfl rfl)
abbrev cX1_change : ByteArray := prog_1_method_8_code
def yX1_change : MethodName := ⟨RX1, "change", "(LPrinterClaims$Order;)I"⟩
def dkwX1_change_1 : List UInt8 := [29, 172, 78, 45, 180, 0, 82, 182, 0, 86, 191]
abbrev dktX1_change_1 : List UInt8 := dkwX1_change_1 ++ []
def dkwX1_change_0 : List UInt8 := [42, 180, 0, 40, 182, 0, 68, 77, 43, 42, 180, 0, 40, 185, 0, 72, 2, 0, 62, 42, 44, 182, 0, 78]
abbrev dktX1_change_0 : List UInt8 := dkwX1_change_0 ++ dktX1_change_1
theorem dksX1_change_0 : cX1_change.data.toList.drop 0 = dktX1_change_0 := by decide +kernel
theorem dksX1_change_1 : cX1_change.data.toList.drop 24 = dktX1_change_1 := dk_seg dksX1_change_0 24 rfl rfl
theorem dX1_change_0 : decode cX1_change 0 = .ok (.aload_n 0, 1) := dk_42 (dk_at dksX1_change_0 0 rfl rfl)
theorem dX1_change_1 : decode cX1_change 1 = .ok (.getfield 40, 3) := dk_180 0 40 (dk_at dksX1_change_0 1 rfl rfl)
theorem dX1_change_4 : decode cX1_change 4 = .ok (.invokevirtual 68, 3) := dk_182 0 68 (dk_at dksX1_change_0 4 rfl rfl)
theorem dX1_change_7 : decode cX1_change 7 = .ok (.astore_n 2, 1) := dk_77 (dk_at dksX1_change_0 7 rfl rfl)
theorem dX1_change_8 : decode cX1_change 8 = .ok (.aload_n 1, 1) := dk_43 (dk_at dksX1_change_0 8 rfl rfl)
theorem dX1_change_9 : decode cX1_change 9 = .ok (.aload_n 0, 1) := dk_42 (dk_at dksX1_change_0 9 rfl rfl)
theorem dX1_change_10 : decode cX1_change 10 = .ok (.getfield 40, 3) := dk_180 0 40 (dk_at dksX1_change_0 10 rfl rfl)
theorem dX1_change_13 : decode cX1_change 13 = .ok (.invokeinterface 72 2, 5) := by decide +kernel
theorem dX1_change_18 : decode cX1_change 18 = .ok (.istore_n 3, 1) := dk_62 (dk_at dksX1_change_0 18 rfl rfl)
theorem dX1_change_19 : decode cX1_change 19 = .ok (.aload_n 0, 1) := dk_42 (dk_at dksX1_change_0 19 rfl rfl)
theorem dX1_change_20 : decode cX1_change 20 = .ok (.aload_n 2, 1) := dk_44 (dk_at dksX1_change_0 20 rfl rfl)
theorem dX1_change_21 : decode cX1_change 21 = .ok (.invokevirtual 78, 3) := dk_182 0 78 (dk_at dksX1_change_0 21 rfl rfl)
theorem dX1_change_24 : decode cX1_change 24 = .ok (.iload_n 3, 1) := dk_29 (dk_at dksX1_change_1 0 rfl rfl)
theorem dX1_change_25 : decode cX1_change 25 = .ok (.ireturn, 1) := dk_172 (dk_at dksX1_change_1 1 rfl rfl)
theorem dX1_change_26 : decode cX1_change 26 = .ok (.astore_n 3, 1) := dk_78 (dk_at dksX1_change_1 2 rfl rfl)
theorem dX1_change_27 : decode cX1_change 27 = .ok (.aload_n 3, 1) := dk_45 (dk_at dksX1_change_1 3 rfl rfl)
theorem dX1_change_28 : decode cX1_change 28 = .ok (.getfield 82, 3) := dk_180 0 82 (dk_at dksX1_change_1 4 rfl rfl)
theorem dX1_change_31 : decode cX1_change 31 = .ok (.invokevirtual 86, 3) := dk_182 0 86 (dk_at dksX1_change_1 7 rfl rfl)
theorem dX1_change_34 : decode cX1_change 34 = .ok (.athrow, 1) := dk_191 (dk_at dksX1_change_1 10 rfl rfl)
abbrev cX1_need_2 : ByteArray := prog_1_method_4_code
def yX1_need_2 : MethodName := ⟨RX1, "need", "(ZLPrinterClaims$Reason;)V"⟩
def dkwX1_need_2_0 : List UInt8 := [26, 154, 0, 12, 187, 0, 1, 89, 43, 183, 0, 3, 191, 177]
abbrev dktX1_need_2_0 : List UInt8 := dkwX1_need_2_0 ++ []
theorem dksX1_need_2_0 : cX1_need_2.data.toList.drop 0 = dktX1_need_2_0 := by decide +kernel
theorem dX1_need_2_0 : decode cX1_need_2 0 = .ok (.iload_n 0, 1) := dk_26 (dk_at dksX1_need_2_0 0 rfl rfl)
theorem dX1_need_2_1 : decode cX1_need_2 1 = .ok (.ifCond .ne 12, 3) := dk_154 0 12 (dk_at dksX1_need_2_0 1 rfl rfl)
theorem dX1_need_2_4 : decode cX1_need_2 4 = .ok (.new 1, 3) := dk_187 0 1 (dk_at dksX1_need_2_0 4 rfl rfl)
theorem dX1_need_2_7 : decode cX1_need_2 7 = .ok (.dup, 1) := dk_89 (dk_at dksX1_need_2_0 7 rfl rfl)
theorem dX1_need_2_8 : decode cX1_need_2 8 = .ok (.aload_n 1, 1) := dk_43 (dk_at dksX1_need_2_0 8 rfl rfl)
theorem dX1_need_2_9 : decode cX1_need_2 9 = .ok (.invokespecial 3, 3) := dk_183 0 3 (dk_at dksX1_need_2_0 9 rfl rfl)
theorem dX1_need_2_12 : decode cX1_need_2 12 = .ok (.athrow, 1) := dk_191 (dk_at dksX1_need_2_0 12 rfl rfl)
theorem dX1_need_2_13 : decode cX1_need_2 13 = .ok (.return_, 1) := dk_177 (dk_at dksX1_need_2_0 13 rfl rfl)
abbrev cX1_record : ByteArray := prog_1_method_7_code
def yX1_record : MethodName := ⟨RX1, "record", "(LPrinterClaims$State;)V"⟩
def dkwX1_record_1 : List UInt8 := [43, 182, 0, 64, 177]
abbrev dktX1_record_1 : List UInt8 := dkwX1_record_1 ++ []
def dkwX1_record_0 : List UInt8 := [42, 180, 0, 21, 182, 0, 56, 16, 8, 160, 0, 11, 42, 180, 0, 21, 182, 0, 60, 87, 42, 180, 0, 21]
abbrev dktX1_record_0 : List UInt8 := dkwX1_record_0 ++ dktX1_record_1
theorem dksX1_record_0 : cX1_record.data.toList.drop 0 = dktX1_record_0 := by decide +kernel
theorem dksX1_record_1 : cX1_record.data.toList.drop 24 = dktX1_record_1 := dk_seg dksX1_record_0 24 rfl rfl
theorem dX1_record_0 : decode cX1_record 0 = .ok (.aload_n 0, 1) := dk_42 (dk_at dksX1_record_0 0 rfl rfl)
theorem dX1_record_1 : decode cX1_record 1 = .ok (.getfield 21, 3) := dk_180 0 21 (dk_at dksX1_record_0 1 rfl rfl)
theorem dX1_record_4 : decode cX1_record 4 = .ok (.invokevirtual 56, 3) := dk_182 0 56 (dk_at dksX1_record_0 4 rfl rfl)
theorem dX1_record_7 : decode cX1_record 7 = .ok (.bipush 8, 2) := dk_16 8 (dk_at dksX1_record_0 7 rfl rfl)
theorem dX1_record_9 : decode cX1_record 9 = .ok (.if_icmp .ne 11, 3) := dk_160 0 11 (dk_at dksX1_record_0 9 rfl rfl)
theorem dX1_record_12 : decode cX1_record 12 = .ok (.aload_n 0, 1) := dk_42 (dk_at dksX1_record_0 12 rfl rfl)
theorem dX1_record_13 : decode cX1_record 13 = .ok (.getfield 21, 3) := dk_180 0 21 (dk_at dksX1_record_0 13 rfl rfl)
theorem dX1_record_16 : decode cX1_record 16 = .ok (.invokevirtual 60, 3) := dk_182 0 60 (dk_at dksX1_record_0 16 rfl rfl)
theorem dX1_record_19 : decode cX1_record 19 = .ok (.pop, 1) := dk_87 (dk_at dksX1_record_0 19 rfl rfl)
theorem dX1_record_20 : decode cX1_record 20 = .ok (.aload_n 0, 1) := dk_42 (dk_at dksX1_record_0 20 rfl rfl)
theorem dX1_record_21 : decode cX1_record 21 = .ok (.getfield 21, 3) := dk_180 0 21 (dk_at dksX1_record_0 21 rfl rfl)
theorem dX1_record_24 : decode cX1_record 24 = .ok (.aload_n 1, 1) := dk_43 (dk_at dksX1_record_1 0 rfl rfl)
theorem dX1_record_25 : decode cX1_record 25 = .ok (.invokevirtual 64, 3) := dk_182 0 64 (dk_at dksX1_record_1 1 rfl rfl)
theorem dX1_record_28 : decode cX1_record 28 = .ok (.return_, 1) := dk_177 (dk_at dksX1_record_1 4 rfl rfl)
abbrev cX1_release : ByteArray := prog_1_method_54_code
def yX1_release : MethodName := ⟨RX1, "release", "(III)I"⟩
def dkwX1_release_0 : List UInt8 := [42, 27, 28, 29, 184, 1, 61, 182, 1, 57, 172]
abbrev dktX1_release_0 : List UInt8 := dkwX1_release_0 ++ []
theorem dksX1_release_0 : cX1_release.data.toList.drop 0 = dktX1_release_0 := by decide +kernel
theorem dX1_release_0 : decode cX1_release 0 = .ok (.aload_n 0, 1) := dk_42 (dk_at dksX1_release_0 0 rfl rfl)
theorem dX1_release_1 : decode cX1_release 1 = .ok (.iload_n 1, 1) := dk_27 (dk_at dksX1_release_0 1 rfl rfl)
theorem dX1_release_2 : decode cX1_release 2 = .ok (.iload_n 2, 1) := dk_28 (dk_at dksX1_release_0 2 rfl rfl)
theorem dX1_release_3 : decode cX1_release 3 = .ok (.iload_n 3, 1) := dk_29 (dk_at dksX1_release_0 3 rfl rfl)
theorem dX1_release_4 : decode cX1_release 4 = .ok (.invokestatic 317, 3) := dk_184 1 61 (dk_at dksX1_release_0 4 rfl rfl)
theorem dX1_release_7 : decode cX1_release 7 = .ok (.invokevirtual 313, 3) := dk_182 1 57 (dk_at dksX1_release_0 7 rfl rfl)
theorem dX1_release_10 : decode cX1_release 10 = .ok (.ireturn, 1) := dk_172 (dk_at dksX1_release_0 10 rfl rfl)
abbrev cX1_finish : ByteArray := prog_1_method_55_code
def yX1_finish : MethodName := ⟨RX1, "finish", "(I)I"⟩
def dkwX1_finish_0 : List UInt8 := [42, 27, 184, 1, 64, 182, 1, 57, 172]
abbrev dktX1_finish_0 : List UInt8 := dkwX1_finish_0 ++ []
theorem dksX1_finish_0 : cX1_finish.data.toList.drop 0 = dktX1_finish_0 := by decide +kernel
theorem dX1_finish_0 : decode cX1_finish 0 = .ok (.aload_n 0, 1) := dk_42 (dk_at dksX1_finish_0 0 rfl rfl)
theorem dX1_finish_1 : decode cX1_finish 1 = .ok (.iload_n 1, 1) := dk_27 (dk_at dksX1_finish_0 1 rfl rfl)
theorem dX1_finish_2 : decode cX1_finish 2 = .ok (.invokestatic 320, 3) := dk_184 1 64 (dk_at dksX1_finish_0 2 rfl rfl)
theorem dX1_finish_5 : decode cX1_finish 5 = .ok (.invokevirtual 313, 3) := dk_182 1 57 (dk_at dksX1_finish_0 5 rfl rfl)
theorem dX1_finish_8 : decode cX1_finish 8 = .ok (.ireturn, 1) := dk_172 (dk_at dksX1_finish_0 8 rfl rfl)
abbrev cX1_withdraw : ByteArray := prog_1_method_56_code
def yX1_withdraw : MethodName := ⟨RX1, "withdraw", "(I)I"⟩
def dkwX1_withdraw_0 : List UInt8 := [42, 27, 184, 1, 68, 182, 1, 57, 172]
abbrev dktX1_withdraw_0 : List UInt8 := dkwX1_withdraw_0 ++ []
theorem dksX1_withdraw_0 : cX1_withdraw.data.toList.drop 0 = dktX1_withdraw_0 := by decide +kernel
theorem dX1_withdraw_0 : decode cX1_withdraw 0 = .ok (.aload_n 0, 1) := dk_42 (dk_at dksX1_withdraw_0 0 rfl rfl)
theorem dX1_withdraw_1 : decode cX1_withdraw 1 = .ok (.iload_n 1, 1) := dk_27 (dk_at dksX1_withdraw_0 1 rfl rfl)
theorem dX1_withdraw_2 : decode cX1_withdraw 2 = .ok (.invokestatic 324, 3) := dk_184 1 68 (dk_at dksX1_withdraw_0 2 rfl rfl)
theorem dX1_withdraw_5 : decode cX1_withdraw 5 = .ok (.invokevirtual 313, 3) := dk_182 1 57 (dk_at dksX1_withdraw_0 5 rfl rfl)
theorem dX1_withdraw_8 : decode cX1_withdraw 8 = .ok (.ireturn, 1) := dk_172 (dk_at dksX1_withdraw_0 8 rfl rfl)
abbrev cX1_changeClaim : ByteArray := prog_1_method_57_code
def yX1_changeClaim : MethodName := ⟨RX1, "changeClaim", "(III)I"⟩
def dkwX1_changeClaim_0 : List UInt8 := [42, 27, 28, 29, 184, 1, 71, 182, 1, 57, 172]
abbrev dktX1_changeClaim_0 : List UInt8 := dkwX1_changeClaim_0 ++ []
theorem dksX1_changeClaim_0 : cX1_changeClaim.data.toList.drop 0 = dktX1_changeClaim_0 := by decide +kernel
theorem dX1_changeClaim_0 : decode cX1_changeClaim 0 = .ok (.aload_n 0, 1) := dk_42 (dk_at dksX1_changeClaim_0 0 rfl rfl)
theorem dX1_changeClaim_1 : decode cX1_changeClaim 1 = .ok (.iload_n 1, 1) := dk_27 (dk_at dksX1_changeClaim_0 1 rfl rfl)
theorem dX1_changeClaim_2 : decode cX1_changeClaim 2 = .ok (.iload_n 2, 1) := dk_28 (dk_at dksX1_changeClaim_0 2 rfl rfl)
theorem dX1_changeClaim_3 : decode cX1_changeClaim 3 = .ok (.iload_n 3, 1) := dk_29 (dk_at dksX1_changeClaim_0 3 rfl rfl)
theorem dX1_changeClaim_4 : decode cX1_changeClaim 4 = .ok (.invokestatic 327, 3) := dk_184 1 71 (dk_at dksX1_changeClaim_0 4 rfl rfl)
theorem dX1_changeClaim_7 : decode cX1_changeClaim 7 = .ok (.invokevirtual 313, 3) := dk_182 1 57 (dk_at dksX1_changeClaim_0 7 rfl rfl)
theorem dX1_changeClaim_10 : decode cX1_changeClaim 10 = .ok (.ireturn, 1) := dk_172 (dk_at dksX1_changeClaim_0 10 rfl rfl)
abbrev cX1_addPrinters : ByteArray := prog_1_method_58_code
def yX1_addPrinters : MethodName := ⟨RX1, "addPrinters", "(II)I"⟩
def dkwX1_addPrinters_0 : List UInt8 := [42, 27, 28, 184, 1, 74, 182, 1, 57, 172]
abbrev dktX1_addPrinters_0 : List UInt8 := dkwX1_addPrinters_0 ++ []
theorem dksX1_addPrinters_0 : cX1_addPrinters.data.toList.drop 0 = dktX1_addPrinters_0 := by decide +kernel
theorem dX1_addPrinters_0 : decode cX1_addPrinters 0 = .ok (.aload_n 0, 1) := dk_42 (dk_at dksX1_addPrinters_0 0 rfl rfl)
theorem dX1_addPrinters_1 : decode cX1_addPrinters 1 = .ok (.iload_n 1, 1) := dk_27 (dk_at dksX1_addPrinters_0 1 rfl rfl)
theorem dX1_addPrinters_2 : decode cX1_addPrinters 2 = .ok (.iload_n 2, 1) := dk_28 (dk_at dksX1_addPrinters_0 2 rfl rfl)
theorem dX1_addPrinters_3 : decode cX1_addPrinters 3 = .ok (.invokestatic 330, 3) := dk_184 1 74 (dk_at dksX1_addPrinters_0 3 rfl rfl)
theorem dX1_addPrinters_6 : decode cX1_addPrinters 6 = .ok (.invokevirtual 313, 3) := dk_182 1 57 (dk_at dksX1_addPrinters_0 6 rfl rfl)
theorem dX1_addPrinters_9 : decode cX1_addPrinters 9 = .ok (.ireturn, 1) := dk_172 (dk_at dksX1_addPrinters_0 9 rfl rfl)
abbrev cX1_retirePrinters : ByteArray := prog_1_method_59_code
def yX1_retirePrinters : MethodName := ⟨RX1, "retirePrinters", "(II)I"⟩
def dkwX1_retirePrinters_0 : List UInt8 := [42, 27, 28, 184, 1, 78, 182, 1, 57, 172]
abbrev dktX1_retirePrinters_0 : List UInt8 := dkwX1_retirePrinters_0 ++ []
theorem dksX1_retirePrinters_0 : cX1_retirePrinters.data.toList.drop 0 = dktX1_retirePrinters_0 := by decide +kernel
theorem dX1_retirePrinters_0 : decode cX1_retirePrinters 0 = .ok (.aload_n 0, 1) := dk_42 (dk_at dksX1_retirePrinters_0 0 rfl rfl)
theorem dX1_retirePrinters_1 : decode cX1_retirePrinters 1 = .ok (.iload_n 1, 1) := dk_27 (dk_at dksX1_retirePrinters_0 1 rfl rfl)
theorem dX1_retirePrinters_2 : decode cX1_retirePrinters 2 = .ok (.iload_n 2, 1) := dk_28 (dk_at dksX1_retirePrinters_0 2 rfl rfl)
theorem dX1_retirePrinters_3 : decode cX1_retirePrinters 3 = .ok (.invokestatic 334, 3) := dk_184 1 78 (dk_at dksX1_retirePrinters_0 3 rfl rfl)
theorem dX1_retirePrinters_6 : decode cX1_retirePrinters 6 = .ok (.invokevirtual 313, 3) := dk_182 1 57 (dk_at dksX1_retirePrinters_0 6 rfl rfl)
theorem dX1_retirePrinters_9 : decode cX1_retirePrinters 9 = .ok (.ireturn, 1) := dk_172 (dk_at dksX1_retirePrinters_0 9 rfl rfl)
abbrev cX1_runScript : ByteArray := prog_1_method_61_code
def yX1_runScript : MethodName := ⟨RX1, "runScript", "(I)I"⟩
def dkwX1_runScript_4 : List UInt8 := [185, 0, 117, 1, 0, 172]
abbrev dktX1_runScript_4 : List UInt8 := dkwX1_runScript_4 ++ []
def dkwX1_runScript_3 : List UInt8 := [58, 4, 25, 4, 182, 1, 102, 193, 0, 1, 153, 0, 11, 25, 4, 180, 1, 106, 167, 0, 9, 44]
abbrev dktX1_runScript_3 : List UInt8 := dkwX1_runScript_3 ++ dktX1_runScript_4
def dkwX1_runScript_2 : List UInt8 := [42, 3, 2, 182, 0, 157, 62, 42, 42, 180, 0, 40, 182, 0, 68, 182, 0, 78, 42, 44, 182, 1, 98, 172]
abbrev dktX1_runScript_2 : List UInt8 := dkwX1_runScript_2 ++ dktX1_runScript_3
def dkwX1_runScript_1 : List UInt8 := [183, 1, 88, 182, 1, 89, 77, 167, 0, 17, 78, 42, 45, 182, 0, 149, 45, 180, 0, 154, 182, 0, 157, 172]
abbrev dktX1_runScript_1 : List UInt8 := dkwX1_runScript_1 ++ dktX1_runScript_2
def dkwX1_runScript_0 : List UInt8 := [42, 27, 3, 42, 180, 0, 130, 182, 0, 133, 42, 3, 181, 0, 130, 187, 1, 86, 89, 42, 180, 0, 14, 27]
abbrev dktX1_runScript_0 : List UInt8 := dkwX1_runScript_0 ++ dktX1_runScript_1
theorem dksX1_runScript_0 : cX1_runScript.data.toList.drop 0 = dktX1_runScript_0 := by decide +kernel
theorem dksX1_runScript_1 : cX1_runScript.data.toList.drop 24 = dktX1_runScript_1 := dk_seg dksX1_runScript_0 24 rfl rfl
theorem dksX1_runScript_2 : cX1_runScript.data.toList.drop 48 = dktX1_runScript_2 := dk_seg dksX1_runScript_1 24 rfl rfl
theorem dksX1_runScript_3 : cX1_runScript.data.toList.drop 72 = dktX1_runScript_3 := dk_seg dksX1_runScript_2 24 rfl rfl
theorem dksX1_runScript_4 : cX1_runScript.data.toList.drop 94 = dktX1_runScript_4 := dk_seg dksX1_runScript_3 22 rfl rfl
theorem dX1_runScript_0 : decode cX1_runScript 0 = .ok (.aload_n 0, 1) := dk_42 (dk_at dksX1_runScript_0 0 rfl rfl)
theorem dX1_runScript_1 : decode cX1_runScript 1 = .ok (.iload_n 1, 1) := dk_27 (dk_at dksX1_runScript_0 1 rfl rfl)
theorem dX1_runScript_2 : decode cX1_runScript 2 = .ok (.iconst 0, 1) := dk_3 (dk_at dksX1_runScript_0 2 rfl rfl)
theorem dX1_runScript_3 : decode cX1_runScript 3 = .ok (.aload_n 0, 1) := dk_42 (dk_at dksX1_runScript_0 3 rfl rfl)
theorem dX1_runScript_4 : decode cX1_runScript 4 = .ok (.getfield 130, 3) := dk_180 0 130 (dk_at dksX1_runScript_0 4 rfl rfl)
theorem dX1_runScript_7 : decode cX1_runScript 7 = .ok (.invokevirtual 133, 3) := dk_182 0 133 (dk_at dksX1_runScript_0 7 rfl rfl)
theorem dX1_runScript_10 : decode cX1_runScript 10 = .ok (.aload_n 0, 1) := dk_42 (dk_at dksX1_runScript_0 10 rfl rfl)
theorem dX1_runScript_11 : decode cX1_runScript 11 = .ok (.iconst 0, 1) := dk_3 (dk_at dksX1_runScript_0 11 rfl rfl)
theorem dX1_runScript_12 : decode cX1_runScript 12 = .ok (.putfield 130, 3) := dk_181 0 130 (dk_at dksX1_runScript_0 12 rfl rfl)
theorem dX1_runScript_15 : decode cX1_runScript 15 = .ok (.new 342, 3) := dk_187 1 86 (dk_at dksX1_runScript_0 15 rfl rfl)
theorem dX1_runScript_18 : decode cX1_runScript 18 = .ok (.dup, 1) := dk_89 (dk_at dksX1_runScript_0 18 rfl rfl)
theorem dX1_runScript_19 : decode cX1_runScript 19 = .ok (.aload_n 0, 1) := dk_42 (dk_at dksX1_runScript_0 19 rfl rfl)
theorem dX1_runScript_20 : decode cX1_runScript 20 = .ok (.getfield 14, 3) := dk_180 0 14 (dk_at dksX1_runScript_0 20 rfl rfl)
theorem dX1_runScript_23 : decode cX1_runScript 23 = .ok (.iload_n 1, 1) := dk_27 (dk_at dksX1_runScript_0 23 rfl rfl)
theorem dX1_runScript_24 : decode cX1_runScript 24 = .ok (.invokespecial 344, 3) := dk_183 1 88 (dk_at dksX1_runScript_1 0 rfl rfl)
theorem dX1_runScript_27 : decode cX1_runScript 27 = .ok (.invokevirtual 345, 3) := dk_182 1 89 (dk_at dksX1_runScript_1 3 rfl rfl)
theorem dX1_runScript_30 : decode cX1_runScript 30 = .ok (.astore_n 2, 1) := dk_77 (dk_at dksX1_runScript_1 6 rfl rfl)
theorem dX1_runScript_31 : decode cX1_runScript 31 = .ok (.goto 17, 3) := dk_167 0 17 (dk_at dksX1_runScript_1 7 rfl rfl)
theorem dX1_runScript_34 : decode cX1_runScript 34 = .ok (.astore_n 3, 1) := dk_78 (dk_at dksX1_runScript_1 10 rfl rfl)
theorem dX1_runScript_35 : decode cX1_runScript 35 = .ok (.aload_n 0, 1) := dk_42 (dk_at dksX1_runScript_1 11 rfl rfl)
theorem dX1_runScript_36 : decode cX1_runScript 36 = .ok (.aload_n 3, 1) := dk_45 (dk_at dksX1_runScript_1 12 rfl rfl)
theorem dX1_runScript_37 : decode cX1_runScript 37 = .ok (.invokevirtual 149, 3) := dk_182 0 149 (dk_at dksX1_runScript_1 13 rfl rfl)
theorem dX1_runScript_40 : decode cX1_runScript 40 = .ok (.aload_n 3, 1) := dk_45 (dk_at dksX1_runScript_1 16 rfl rfl)
theorem dX1_runScript_41 : decode cX1_runScript 41 = .ok (.getfield 154, 3) := dk_180 0 154 (dk_at dksX1_runScript_1 17 rfl rfl)
theorem dX1_runScript_44 : decode cX1_runScript 44 = .ok (.invokevirtual 157, 3) := dk_182 0 157 (dk_at dksX1_runScript_1 20 rfl rfl)
theorem dX1_runScript_47 : decode cX1_runScript 47 = .ok (.ireturn, 1) := dk_172 (dk_at dksX1_runScript_1 23 rfl rfl)
theorem dX1_runScript_48 : decode cX1_runScript 48 = .ok (.aload_n 0, 1) := dk_42 (dk_at dksX1_runScript_2 0 rfl rfl)
theorem dX1_runScript_49 : decode cX1_runScript 49 = .ok (.iconst 0, 1) := dk_3 (dk_at dksX1_runScript_2 1 rfl rfl)
theorem dX1_runScript_50 : decode cX1_runScript 50 = .ok (.iconst (-1), 1) := dk_2 (dk_at dksX1_runScript_2 2 rfl rfl)
theorem dX1_runScript_51 : decode cX1_runScript 51 = .ok (.invokevirtual 157, 3) := dk_182 0 157 (dk_at dksX1_runScript_2 3 rfl rfl)
theorem dX1_runScript_54 : decode cX1_runScript 54 = .ok (.istore_n 3, 1) := dk_62 (dk_at dksX1_runScript_2 6 rfl rfl)
theorem dX1_runScript_55 : decode cX1_runScript 55 = .ok (.aload_n 0, 1) := dk_42 (dk_at dksX1_runScript_2 7 rfl rfl)
theorem dX1_runScript_56 : decode cX1_runScript 56 = .ok (.aload_n 0, 1) := dk_42 (dk_at dksX1_runScript_2 8 rfl rfl)
theorem dX1_runScript_57 : decode cX1_runScript 57 = .ok (.getfield 40, 3) := dk_180 0 40 (dk_at dksX1_runScript_2 9 rfl rfl)
theorem dX1_runScript_60 : decode cX1_runScript 60 = .ok (.invokevirtual 68, 3) := dk_182 0 68 (dk_at dksX1_runScript_2 12 rfl rfl)
theorem dX1_runScript_63 : decode cX1_runScript 63 = .ok (.invokevirtual 78, 3) := dk_182 0 78 (dk_at dksX1_runScript_2 15 rfl rfl)
theorem dX1_runScript_66 : decode cX1_runScript 66 = .ok (.aload_n 0, 1) := dk_42 (dk_at dksX1_runScript_2 18 rfl rfl)
theorem dX1_runScript_67 : decode cX1_runScript 67 = .ok (.aload_n 2, 1) := dk_44 (dk_at dksX1_runScript_2 19 rfl rfl)
theorem dX1_runScript_68 : decode cX1_runScript 68 = .ok (.invokevirtual 354, 3) := dk_182 1 98 (dk_at dksX1_runScript_2 20 rfl rfl)
theorem dX1_runScript_71 : decode cX1_runScript 71 = .ok (.ireturn, 1) := dk_172 (dk_at dksX1_runScript_2 23 rfl rfl)
theorem dX1_runScript_72 : decode cX1_runScript 72 = .ok (.astore 4, 2) := dk_58 4 (dk_at dksX1_runScript_3 0 rfl rfl)
theorem dX1_runScript_74 : decode cX1_runScript 74 = .ok (.aload 4, 2) := dk_25 4 (dk_at dksX1_runScript_3 2 rfl rfl)
theorem dX1_runScript_76 : decode cX1_runScript 76 = .ok (.invokevirtual 358, 3) := dk_182 1 102 (dk_at dksX1_runScript_3 4 rfl rfl)
theorem dX1_runScript_79 : decode cX1_runScript 79 = .ok (.instanceof 1, 3) := dk_193 0 1 (dk_at dksX1_runScript_3 7 rfl rfl)
theorem dX1_runScript_82 : decode cX1_runScript 82 = .ok (.ifCond .eq 11, 3) := dk_153 0 11 (dk_at dksX1_runScript_3 10 rfl rfl)
theorem dX1_runScript_85 : decode cX1_runScript 85 = .ok (.aload 4, 2) := dk_25 4 (dk_at dksX1_runScript_3 13 rfl rfl)
theorem dX1_runScript_87 : decode cX1_runScript 87 = .ok (.getfield 362, 3) := dk_180 1 106 (dk_at dksX1_runScript_3 15 rfl rfl)
theorem dX1_runScript_90 : decode cX1_runScript 90 = .ok (.goto 9, 3) := dk_167 0 9 (dk_at dksX1_runScript_3 18 rfl rfl)
theorem dX1_runScript_93 : decode cX1_runScript 93 = .ok (.aload_n 2, 1) := dk_44 (dk_at dksX1_runScript_3 21 rfl rfl)
theorem dX1_runScript_94 : decode cX1_runScript 94 = .ok (.invokeinterface 117 1, 5) := by decide +kernel
theorem dX1_runScript_99 : decode cX1_runScript 99 = .ok (.ireturn, 1) := dk_172 (dk_at dksX1_runScript_4 5 rfl rfl)
abbrev cX1_runAll : ByteArray := prog_1_method_60_code
def yX1_runAll : MethodName := ⟨RX1, "runAll", "(Ljava/util/List;)I"⟩
def dkwX1_runAll_2 : List UInt8 := [187, 1, 81, 89, 28, 25, 5, 183, 1, 83, 191, 132, 2, 1, 167, 255, 204, 28, 172]
abbrev dktX1_runAll_2 : List UInt8 := dkwX1_runAll_2 ++ []
def dkwX1_runAll_1 : List UInt8 := [192, 0, 73, 58, 4, 25, 4, 42, 180, 0, 40, 185, 0, 72, 2, 0, 54, 5, 167, 0, 16, 58, 5]
abbrev dktX1_runAll_1 : List UInt8 := dkwX1_runAll_1 ++ dktX1_runAll_2
def dkwX1_runAll_0 : List UInt8 := [3, 61, 43, 185, 0, 208, 1, 0, 78, 45, 185, 0, 212, 1, 0, 153, 0, 49, 45, 185, 0, 218, 1, 0]
abbrev dktX1_runAll_0 : List UInt8 := dkwX1_runAll_0 ++ dktX1_runAll_1
theorem dksX1_runAll_0 : cX1_runAll.data.toList.drop 0 = dktX1_runAll_0 := by decide +kernel
theorem dksX1_runAll_1 : cX1_runAll.data.toList.drop 24 = dktX1_runAll_1 := dk_seg dksX1_runAll_0 24 rfl rfl
theorem dksX1_runAll_2 : cX1_runAll.data.toList.drop 47 = dktX1_runAll_2 := dk_seg dksX1_runAll_1 23 rfl rfl
theorem dX1_runAll_0 : decode cX1_runAll 0 = .ok (.iconst 0, 1) := dk_3 (dk_at dksX1_runAll_0 0 rfl rfl)
theorem dX1_runAll_1 : decode cX1_runAll 1 = .ok (.istore_n 2, 1) := dk_61 (dk_at dksX1_runAll_0 1 rfl rfl)
theorem dX1_runAll_2 : decode cX1_runAll 2 = .ok (.aload_n 1, 1) := dk_43 (dk_at dksX1_runAll_0 2 rfl rfl)
theorem dX1_runAll_3 : decode cX1_runAll 3 = .ok (.invokeinterface 208 1, 5) := by decide +kernel
theorem dX1_runAll_8 : decode cX1_runAll 8 = .ok (.astore_n 3, 1) := dk_78 (dk_at dksX1_runAll_0 8 rfl rfl)
theorem dX1_runAll_9 : decode cX1_runAll 9 = .ok (.aload_n 3, 1) := dk_45 (dk_at dksX1_runAll_0 9 rfl rfl)
theorem dX1_runAll_10 : decode cX1_runAll 10 = .ok (.invokeinterface 212 1, 5) := by decide +kernel
theorem dX1_runAll_15 : decode cX1_runAll 15 = .ok (.ifCond .eq 49, 3) := dk_153 0 49 (dk_at dksX1_runAll_0 15 rfl rfl)
theorem dX1_runAll_18 : decode cX1_runAll 18 = .ok (.aload_n 3, 1) := dk_45 (dk_at dksX1_runAll_0 18 rfl rfl)
theorem dX1_runAll_19 : decode cX1_runAll 19 = .ok (.invokeinterface 218 1, 5) := by decide +kernel
theorem dX1_runAll_24 : decode cX1_runAll 24 = .ok (.checkcast 73, 3) := dk_192 0 73 (dk_at dksX1_runAll_1 0 rfl rfl)
theorem dX1_runAll_27 : decode cX1_runAll 27 = .ok (.astore 4, 2) := dk_58 4 (dk_at dksX1_runAll_1 3 rfl rfl)
theorem dX1_runAll_29 : decode cX1_runAll 29 = .ok (.aload 4, 2) := dk_25 4 (dk_at dksX1_runAll_1 5 rfl rfl)
theorem dX1_runAll_31 : decode cX1_runAll 31 = .ok (.aload_n 0, 1) := dk_42 (dk_at dksX1_runAll_1 7 rfl rfl)
theorem dX1_runAll_32 : decode cX1_runAll 32 = .ok (.getfield 40, 3) := dk_180 0 40 (dk_at dksX1_runAll_1 8 rfl rfl)
theorem dX1_runAll_35 : decode cX1_runAll 35 = .ok (.invokeinterface 72 2, 5) := by decide +kernel
theorem dX1_runAll_40 : decode cX1_runAll 40 = .ok (.istore 5, 2) := dk_54 5 (dk_at dksX1_runAll_1 16 rfl rfl)
theorem dX1_runAll_42 : decode cX1_runAll 42 = .ok (.goto 16, 3) := dk_167 0 16 (dk_at dksX1_runAll_1 18 rfl rfl)
theorem dX1_runAll_45 : decode cX1_runAll 45 = .ok (.astore 5, 2) := dk_58 5 (dk_at dksX1_runAll_1 21 rfl rfl)
theorem dX1_runAll_47 : decode cX1_runAll 47 = .ok (.new 337, 3) := dk_187 1 81 (dk_at dksX1_runAll_2 0 rfl rfl)
theorem dX1_runAll_50 : decode cX1_runAll 50 = .ok (.dup, 1) := dk_89 (dk_at dksX1_runAll_2 3 rfl rfl)
theorem dX1_runAll_51 : decode cX1_runAll 51 = .ok (.iload_n 2, 1) := dk_28 (dk_at dksX1_runAll_2 4 rfl rfl)
theorem dX1_runAll_52 : decode cX1_runAll 52 = .ok (.aload 5, 2) := dk_25 5 (dk_at dksX1_runAll_2 5 rfl rfl)
theorem dX1_runAll_54 : decode cX1_runAll 54 = .ok (.invokespecial 339, 3) := dk_183 1 83 (dk_at dksX1_runAll_2 7 rfl rfl)
theorem dX1_runAll_57 : decode cX1_runAll 57 = .ok (.athrow, 1) := dk_191 (dk_at dksX1_runAll_2 10 rfl rfl)
theorem dX1_runAll_58 : decode cX1_runAll 58 = .ok (.iinc 2 1, 3) := dk_132 2 1 (dk_at dksX1_runAll_2 11 rfl rfl)
theorem dX1_runAll_61 : decode cX1_runAll 61 = .ok (.goto (-52), 3) := dk_167 255 204 (dk_at dksX1_runAll_2 14 rfl rfl)
theorem dX1_runAll_64 : decode cX1_runAll 64 = .ok (.iload_n 2, 1) := dk_28 (dk_at dksX1_runAll_2 17 rfl rfl)
theorem dX1_runAll_65 : decode cX1_runAll 65 = .ok (.ireturn, 1) := dk_172 (dk_at dksX1_runAll_2 18 rfl rfl)
abbrev cX1_writeOffice : ByteArray := prog_1_method_62_code
def yX1_writeOffice : MethodName := ⟨RX1, "writeOffice", "(I)I"⟩
def dkwX1_writeOffice_5 : List UInt8 := [182, 1, 118, 87, 42, 45, 182, 1, 126, 181, 0, 31, 42, 180, 0, 31, 182, 1, 130, 172]
abbrev dktX1_writeOffice_5 : List UInt8 := dkwX1_writeOffice_5 ++ []
def dkwX1_writeOffice_4 : List UInt8 := [19, 1, 124, 182, 1, 114, 25, 4, 182, 0, 243, 182, 1, 118, 16, 58, 182, 1, 121, 25, 4, 182, 0, 246]
abbrev dktX1_writeOffice_4 : List UInt8 := dkwX1_writeOffice_4 ++ dktX1_writeOffice_5
def dkwX1_writeOffice_3 : List UInt8 := [87, 132, 4, 1, 167, 255, 198, 42, 180, 0, 40, 27, 182, 0, 239, 58, 4, 25, 4, 198, 0, 32, 45]
abbrev dktX1_writeOffice_3 : List UInt8 := dkwX1_writeOffice_3 ++ dktX1_writeOffice_4
def dkwX1_writeOffice_2 : List UInt8 := [180, 0, 195, 21, 4, 46, 182, 1, 118, 16, 47, 182, 1, 121, 44, 180, 0, 192, 21, 4, 46, 182, 1, 118]
abbrev dktX1_writeOffice_2 : List UInt8 := dkwX1_writeOffice_2 ++ dktX1_writeOffice_3
def dkwX1_writeOffice_1 : List UInt8 := [182, 0, 167, 162, 0, 52, 45, 21, 4, 158, 0, 9, 19, 1, 112, 167, 0, 5, 18, 29, 182, 1, 114, 44]
abbrev dktX1_writeOffice_1 : List UInt8 := dkwX1_writeOffice_1 ++ dktX1_writeOffice_2
def dkwX1_writeOffice_0 : List UInt8 := [42, 27, 182, 0, 110, 77, 187, 1, 109, 89, 183, 1, 111, 78, 3, 54, 4, 21, 4, 42, 180, 0, 40]
abbrev dktX1_writeOffice_0 : List UInt8 := dkwX1_writeOffice_0 ++ dktX1_writeOffice_1
theorem dksX1_writeOffice_0 : cX1_writeOffice.data.toList.drop 0 = dktX1_writeOffice_0 := by decide +kernel
theorem dksX1_writeOffice_1 : cX1_writeOffice.data.toList.drop 23 = dktX1_writeOffice_1 := dk_seg dksX1_writeOffice_0 23 rfl rfl
theorem dksX1_writeOffice_2 : cX1_writeOffice.data.toList.drop 47 = dktX1_writeOffice_2 := dk_seg dksX1_writeOffice_1 24 rfl rfl
theorem dksX1_writeOffice_3 : cX1_writeOffice.data.toList.drop 71 = dktX1_writeOffice_3 := dk_seg dksX1_writeOffice_2 24 rfl rfl
theorem dksX1_writeOffice_4 : cX1_writeOffice.data.toList.drop 94 = dktX1_writeOffice_4 := dk_seg dksX1_writeOffice_3 23 rfl rfl
theorem dksX1_writeOffice_5 : cX1_writeOffice.data.toList.drop 118 = dktX1_writeOffice_5 := dk_seg dksX1_writeOffice_4 24 rfl rfl
theorem dX1_writeOffice_0 : decode cX1_writeOffice 0 = .ok (.aload_n 0, 1) := dk_42 (dk_at dksX1_writeOffice_0 0 rfl rfl)
theorem dX1_writeOffice_1 : decode cX1_writeOffice 1 = .ok (.iload_n 1, 1) := dk_27 (dk_at dksX1_writeOffice_0 1 rfl rfl)
theorem dX1_writeOffice_2 : decode cX1_writeOffice 2 = .ok (.invokevirtual 110, 3) := dk_182 0 110 (dk_at dksX1_writeOffice_0 2 rfl rfl)
theorem dX1_writeOffice_5 : decode cX1_writeOffice 5 = .ok (.astore_n 2, 1) := dk_77 (dk_at dksX1_writeOffice_0 5 rfl rfl)
theorem dX1_writeOffice_6 : decode cX1_writeOffice 6 = .ok (.new 365, 3) := dk_187 1 109 (dk_at dksX1_writeOffice_0 6 rfl rfl)
theorem dX1_writeOffice_9 : decode cX1_writeOffice 9 = .ok (.dup, 1) := dk_89 (dk_at dksX1_writeOffice_0 9 rfl rfl)
theorem dX1_writeOffice_10 : decode cX1_writeOffice 10 = .ok (.invokespecial 367, 3) := dk_183 1 111 (dk_at dksX1_writeOffice_0 10 rfl rfl)
theorem dX1_writeOffice_13 : decode cX1_writeOffice 13 = .ok (.astore_n 3, 1) := dk_78 (dk_at dksX1_writeOffice_0 13 rfl rfl)
theorem dX1_writeOffice_14 : decode cX1_writeOffice 14 = .ok (.iconst 0, 1) := dk_3 (dk_at dksX1_writeOffice_0 14 rfl rfl)
theorem dX1_writeOffice_15 : decode cX1_writeOffice 15 = .ok (.istore 4, 2) := dk_54 4 (dk_at dksX1_writeOffice_0 15 rfl rfl)
theorem dX1_writeOffice_17 : decode cX1_writeOffice 17 = .ok (.iload 4, 2) := dk_21 4 (dk_at dksX1_writeOffice_0 17 rfl rfl)
theorem dX1_writeOffice_19 : decode cX1_writeOffice 19 = .ok (.aload_n 0, 1) := dk_42 (dk_at dksX1_writeOffice_0 19 rfl rfl)
theorem dX1_writeOffice_20 : decode cX1_writeOffice 20 = .ok (.getfield 40, 3) := dk_180 0 40 (dk_at dksX1_writeOffice_0 20 rfl rfl)
theorem dX1_writeOffice_23 : decode cX1_writeOffice 23 = .ok (.invokevirtual 167, 3) := dk_182 0 167 (dk_at dksX1_writeOffice_1 0 rfl rfl)
theorem dX1_writeOffice_26 : decode cX1_writeOffice 26 = .ok (.if_icmp .ge 52, 3) := dk_162 0 52 (dk_at dksX1_writeOffice_1 3 rfl rfl)
theorem dX1_writeOffice_29 : decode cX1_writeOffice 29 = .ok (.aload_n 3, 1) := dk_45 (dk_at dksX1_writeOffice_1 6 rfl rfl)
theorem dX1_writeOffice_30 : decode cX1_writeOffice 30 = .ok (.iload 4, 2) := dk_21 4 (dk_at dksX1_writeOffice_1 7 rfl rfl)
theorem dX1_writeOffice_32 : decode cX1_writeOffice 32 = .ok (.ifCond .le 9, 3) := dk_158 0 9 (dk_at dksX1_writeOffice_1 9 rfl rfl)
theorem dX1_writeOffice_35 : decode cX1_writeOffice 35 = .ok (.ldc_w 368, 3) := dk_19 1 112 (dk_at dksX1_writeOffice_1 12 rfl rfl)
theorem dX1_writeOffice_38 : decode cX1_writeOffice 38 = .ok (.goto 5, 3) := dk_167 0 5 (dk_at dksX1_writeOffice_1 15 rfl rfl)
theorem dX1_writeOffice_41 : decode cX1_writeOffice 41 = .ok (.ldc 29, 2) := dk_18 29 (dk_at dksX1_writeOffice_1 18 rfl rfl)
theorem dX1_writeOffice_43 : decode cX1_writeOffice 43 = .ok (.invokevirtual 370, 3) := dk_182 1 114 (dk_at dksX1_writeOffice_1 20 rfl rfl)
theorem dX1_writeOffice_46 : decode cX1_writeOffice 46 = .ok (.aload_n 2, 1) := dk_44 (dk_at dksX1_writeOffice_1 23 rfl rfl)
theorem dX1_writeOffice_47 : decode cX1_writeOffice 47 = .ok (.getfield 195, 3) := dk_180 0 195 (dk_at dksX1_writeOffice_2 0 rfl rfl)
theorem dX1_writeOffice_50 : decode cX1_writeOffice 50 = .ok (.iload 4, 2) := dk_21 4 (dk_at dksX1_writeOffice_2 3 rfl rfl)
theorem dX1_writeOffice_52 : decode cX1_writeOffice 52 = .ok (.iaload, 1) := dk_46 (dk_at dksX1_writeOffice_2 5 rfl rfl)
theorem dX1_writeOffice_53 : decode cX1_writeOffice 53 = .ok (.invokevirtual 374, 3) := dk_182 1 118 (dk_at dksX1_writeOffice_2 6 rfl rfl)
theorem dX1_writeOffice_56 : decode cX1_writeOffice 56 = .ok (.bipush 47, 2) := dk_16 47 (dk_at dksX1_writeOffice_2 9 rfl rfl)
theorem dX1_writeOffice_58 : decode cX1_writeOffice 58 = .ok (.invokevirtual 377, 3) := dk_182 1 121 (dk_at dksX1_writeOffice_2 11 rfl rfl)
theorem dX1_writeOffice_61 : decode cX1_writeOffice 61 = .ok (.aload_n 2, 1) := dk_44 (dk_at dksX1_writeOffice_2 14 rfl rfl)
theorem dX1_writeOffice_62 : decode cX1_writeOffice 62 = .ok (.getfield 192, 3) := dk_180 0 192 (dk_at dksX1_writeOffice_2 15 rfl rfl)
theorem dX1_writeOffice_65 : decode cX1_writeOffice 65 = .ok (.iload 4, 2) := dk_21 4 (dk_at dksX1_writeOffice_2 18 rfl rfl)
theorem dX1_writeOffice_67 : decode cX1_writeOffice 67 = .ok (.iaload, 1) := dk_46 (dk_at dksX1_writeOffice_2 20 rfl rfl)
theorem dX1_writeOffice_68 : decode cX1_writeOffice 68 = .ok (.invokevirtual 374, 3) := dk_182 1 118 (dk_at dksX1_writeOffice_2 21 rfl rfl)
theorem dX1_writeOffice_71 : decode cX1_writeOffice 71 = .ok (.pop, 1) := dk_87 (dk_at dksX1_writeOffice_3 0 rfl rfl)
theorem dX1_writeOffice_72 : decode cX1_writeOffice 72 = .ok (.iinc 4 1, 3) := dk_132 4 1 (dk_at dksX1_writeOffice_3 1 rfl rfl)
theorem dX1_writeOffice_75 : decode cX1_writeOffice 75 = .ok (.goto (-58), 3) := dk_167 255 198 (dk_at dksX1_writeOffice_3 4 rfl rfl)
theorem dX1_writeOffice_78 : decode cX1_writeOffice 78 = .ok (.aload_n 0, 1) := dk_42 (dk_at dksX1_writeOffice_3 7 rfl rfl)
theorem dX1_writeOffice_79 : decode cX1_writeOffice 79 = .ok (.getfield 40, 3) := dk_180 0 40 (dk_at dksX1_writeOffice_3 8 rfl rfl)
theorem dX1_writeOffice_82 : decode cX1_writeOffice 82 = .ok (.iload_n 1, 1) := dk_27 (dk_at dksX1_writeOffice_3 11 rfl rfl)
theorem dX1_writeOffice_83 : decode cX1_writeOffice 83 = .ok (.invokevirtual 239, 3) := dk_182 0 239 (dk_at dksX1_writeOffice_3 12 rfl rfl)
theorem dX1_writeOffice_86 : decode cX1_writeOffice 86 = .ok (.astore 4, 2) := dk_58 4 (dk_at dksX1_writeOffice_3 15 rfl rfl)
theorem dX1_writeOffice_88 : decode cX1_writeOffice 88 = .ok (.aload 4, 2) := dk_25 4 (dk_at dksX1_writeOffice_3 17 rfl rfl)
theorem dX1_writeOffice_90 : decode cX1_writeOffice 90 = .ok (.ifnull 32, 3) := dk_198 0 32 (dk_at dksX1_writeOffice_3 19 rfl rfl)
theorem dX1_writeOffice_93 : decode cX1_writeOffice 93 = .ok (.aload_n 3, 1) := dk_45 (dk_at dksX1_writeOffice_3 22 rfl rfl)
theorem dX1_writeOffice_94 : decode cX1_writeOffice 94 = .ok (.ldc_w 380, 3) := dk_19 1 124 (dk_at dksX1_writeOffice_4 0 rfl rfl)
theorem dX1_writeOffice_97 : decode cX1_writeOffice 97 = .ok (.invokevirtual 370, 3) := dk_182 1 114 (dk_at dksX1_writeOffice_4 3 rfl rfl)
theorem dX1_writeOffice_100 : decode cX1_writeOffice 100 = .ok (.aload 4, 2) := dk_25 4 (dk_at dksX1_writeOffice_4 6 rfl rfl)
theorem dX1_writeOffice_102 : decode cX1_writeOffice 102 = .ok (.invokevirtual 243, 3) := dk_182 0 243 (dk_at dksX1_writeOffice_4 8 rfl rfl)
theorem dX1_writeOffice_105 : decode cX1_writeOffice 105 = .ok (.invokevirtual 374, 3) := dk_182 1 118 (dk_at dksX1_writeOffice_4 11 rfl rfl)
theorem dX1_writeOffice_108 : decode cX1_writeOffice 108 = .ok (.bipush 58, 2) := dk_16 58 (dk_at dksX1_writeOffice_4 14 rfl rfl)
theorem dX1_writeOffice_110 : decode cX1_writeOffice 110 = .ok (.invokevirtual 377, 3) := dk_182 1 121 (dk_at dksX1_writeOffice_4 16 rfl rfl)
theorem dX1_writeOffice_113 : decode cX1_writeOffice 113 = .ok (.aload 4, 2) := dk_25 4 (dk_at dksX1_writeOffice_4 19 rfl rfl)
theorem dX1_writeOffice_115 : decode cX1_writeOffice 115 = .ok (.invokevirtual 246, 3) := dk_182 0 246 (dk_at dksX1_writeOffice_4 21 rfl rfl)
theorem dX1_writeOffice_118 : decode cX1_writeOffice 118 = .ok (.invokevirtual 374, 3) := dk_182 1 118 (dk_at dksX1_writeOffice_5 0 rfl rfl)
theorem dX1_writeOffice_121 : decode cX1_writeOffice 121 = .ok (.pop, 1) := dk_87 (dk_at dksX1_writeOffice_5 3 rfl rfl)
theorem dX1_writeOffice_122 : decode cX1_writeOffice 122 = .ok (.aload_n 0, 1) := dk_42 (dk_at dksX1_writeOffice_5 4 rfl rfl)
theorem dX1_writeOffice_123 : decode cX1_writeOffice 123 = .ok (.aload_n 3, 1) := dk_45 (dk_at dksX1_writeOffice_5 5 rfl rfl)
theorem dX1_writeOffice_124 : decode cX1_writeOffice 124 = .ok (.invokevirtual 382, 3) := dk_182 1 126 (dk_at dksX1_writeOffice_5 6 rfl rfl)
theorem dX1_writeOffice_127 : decode cX1_writeOffice 127 = .ok (.putfield 31, 3) := dk_181 0 31 (dk_at dksX1_writeOffice_5 9 rfl rfl)
theorem dX1_writeOffice_130 : decode cX1_writeOffice 130 = .ok (.aload_n 0, 1) := dk_42 (dk_at dksX1_writeOffice_5 12 rfl rfl)
theorem dX1_writeOffice_131 : decode cX1_writeOffice 131 = .ok (.getfield 31, 3) := dk_180 0 31 (dk_at dksX1_writeOffice_5 13 rfl rfl)
theorem dX1_writeOffice_134 : decode cX1_writeOffice 134 = .ok (.invokevirtual 386, 3) := dk_182 1 130 (dk_at dksX1_writeOffice_5 16 rfl rfl)
theorem dX1_writeOffice_137 : decode cX1_writeOffice 137 = .ok (.ireturn, 1) := dk_172 (dk_at dksX1_writeOffice_5 19 rfl rfl)
abbrev cX1_outputByte : ByteArray := prog_1_method_63_code
def yX1_outputByte : MethodName := ⟨RX1, "outputByte", "(I)I"⟩
def dkwX1_outputByte_1 : List UInt8 := [191, 42, 180, 0, 31, 27, 182, 1, 135, 172]
abbrev dktX1_outputByte_1 : List UInt8 := dkwX1_outputByte_1 ++ []
def dkwX1_outputByte_0 : List UInt8 := [27, 3, 42, 180, 0, 31, 182, 1, 130, 4, 100, 184, 0, 120, 154, 0, 11, 187, 0, 96, 89, 183, 0, 98]
abbrev dktX1_outputByte_0 : List UInt8 := dkwX1_outputByte_0 ++ dktX1_outputByte_1
theorem dksX1_outputByte_0 : cX1_outputByte.data.toList.drop 0 = dktX1_outputByte_0 := by decide +kernel
theorem dksX1_outputByte_1 : cX1_outputByte.data.toList.drop 24 = dktX1_outputByte_1 := dk_seg dksX1_outputByte_0 24 rfl rfl
theorem dX1_outputByte_0 : decode cX1_outputByte 0 = .ok (.iload_n 1, 1) := dk_27 (dk_at dksX1_outputByte_0 0 rfl rfl)
theorem dX1_outputByte_1 : decode cX1_outputByte 1 = .ok (.iconst 0, 1) := dk_3 (dk_at dksX1_outputByte_0 1 rfl rfl)
theorem dX1_outputByte_2 : decode cX1_outputByte 2 = .ok (.aload_n 0, 1) := dk_42 (dk_at dksX1_outputByte_0 2 rfl rfl)
theorem dX1_outputByte_3 : decode cX1_outputByte 3 = .ok (.getfield 31, 3) := dk_180 0 31 (dk_at dksX1_outputByte_0 3 rfl rfl)
theorem dX1_outputByte_6 : decode cX1_outputByte 6 = .ok (.invokevirtual 386, 3) := dk_182 1 130 (dk_at dksX1_outputByte_0 6 rfl rfl)
theorem dX1_outputByte_9 : decode cX1_outputByte 9 = .ok (.iconst 1, 1) := dk_4 (dk_at dksX1_outputByte_0 9 rfl rfl)
theorem dX1_outputByte_10 : decode cX1_outputByte 10 = .ok (.isub, 1) := dk_100 (dk_at dksX1_outputByte_0 10 rfl rfl)
theorem dX1_outputByte_11 : decode cX1_outputByte 11 = .ok (.invokestatic 120, 3) := dk_184 0 120 (dk_at dksX1_outputByte_0 11 rfl rfl)
theorem dX1_outputByte_14 : decode cX1_outputByte 14 = .ok (.ifCond .ne 11, 3) := dk_154 0 11 (dk_at dksX1_outputByte_0 14 rfl rfl)
theorem dX1_outputByte_17 : decode cX1_outputByte 17 = .ok (.new 96, 3) := dk_187 0 96 (dk_at dksX1_outputByte_0 17 rfl rfl)
theorem dX1_outputByte_20 : decode cX1_outputByte 20 = .ok (.dup, 1) := dk_89 (dk_at dksX1_outputByte_0 20 rfl rfl)
theorem dX1_outputByte_21 : decode cX1_outputByte 21 = .ok (.invokespecial 98, 3) := dk_183 0 98 (dk_at dksX1_outputByte_0 21 rfl rfl)
theorem dX1_outputByte_24 : decode cX1_outputByte 24 = .ok (.athrow, 1) := dk_191 (dk_at dksX1_outputByte_1 0 rfl rfl)
theorem dX1_outputByte_25 : decode cX1_outputByte 25 = .ok (.aload_n 0, 1) := dk_42 (dk_at dksX1_outputByte_1 1 rfl rfl)
theorem dX1_outputByte_26 : decode cX1_outputByte 26 = .ok (.getfield 31, 3) := dk_180 0 31 (dk_at dksX1_outputByte_1 2 rfl rfl)
theorem dX1_outputByte_29 : decode cX1_outputByte 29 = .ok (.iload_n 1, 1) := dk_27 (dk_at dksX1_outputByte_1 5 rfl rfl)
theorem dX1_outputByte_30 : decode cX1_outputByte 30 = .ok (.invokevirtual 391, 3) := dk_182 1 135 (dk_at dksX1_outputByte_1 6 rfl rfl)
theorem dX1_outputByte_33 : decode cX1_outputByte 33 = .ok (.ireturn, 1) := dk_172 (dk_at dksX1_outputByte_1 9 rfl rfl)
abbrev cX1_undo : ByteArray := prog_1_method_65_code
def yX1_undo : MethodName := ⟨RX1, "undo", "()I"⟩
def dkwX1_undo_1 : List UInt8 := [182, 1, 145, 192, 0, 35, 181, 0, 40, 42, 180, 0, 21, 182, 0, 56, 172]
abbrev dktX1_undo_1 : List UInt8 := dkwX1_undo_1 ++ []
def dkwX1_undo_0 : List UInt8 := [42, 180, 0, 21, 182, 1, 139, 153, 0, 11, 187, 1, 142, 89, 183, 1, 144, 191, 42, 42, 180, 0, 21]
abbrev dktX1_undo_0 : List UInt8 := dkwX1_undo_0 ++ dktX1_undo_1
theorem dksX1_undo_0 : cX1_undo.data.toList.drop 0 = dktX1_undo_0 := by decide +kernel
theorem dksX1_undo_1 : cX1_undo.data.toList.drop 23 = dktX1_undo_1 := dk_seg dksX1_undo_0 23 rfl rfl
theorem dX1_undo_0 : decode cX1_undo 0 = .ok (.aload_n 0, 1) := dk_42 (dk_at dksX1_undo_0 0 rfl rfl)
theorem dX1_undo_1 : decode cX1_undo 1 = .ok (.getfield 21, 3) := dk_180 0 21 (dk_at dksX1_undo_0 1 rfl rfl)
theorem dX1_undo_4 : decode cX1_undo 4 = .ok (.invokevirtual 395, 3) := dk_182 1 139 (dk_at dksX1_undo_0 4 rfl rfl)
theorem dX1_undo_7 : decode cX1_undo 7 = .ok (.ifCond .eq 11, 3) := dk_153 0 11 (dk_at dksX1_undo_0 7 rfl rfl)
theorem dX1_undo_10 : decode cX1_undo 10 = .ok (.new 398, 3) := dk_187 1 142 (dk_at dksX1_undo_0 10 rfl rfl)
theorem dX1_undo_13 : decode cX1_undo 13 = .ok (.dup, 1) := dk_89 (dk_at dksX1_undo_0 13 rfl rfl)
theorem dX1_undo_14 : decode cX1_undo 14 = .ok (.invokespecial 400, 3) := dk_183 1 144 (dk_at dksX1_undo_0 14 rfl rfl)
theorem dX1_undo_17 : decode cX1_undo 17 = .ok (.athrow, 1) := dk_191 (dk_at dksX1_undo_0 17 rfl rfl)
theorem dX1_undo_18 : decode cX1_undo 18 = .ok (.aload_n 0, 1) := dk_42 (dk_at dksX1_undo_0 18 rfl rfl)
theorem dX1_undo_19 : decode cX1_undo 19 = .ok (.aload_n 0, 1) := dk_42 (dk_at dksX1_undo_0 19 rfl rfl)
theorem dX1_undo_20 : decode cX1_undo 20 = .ok (.getfield 21, 3) := dk_180 0 21 (dk_at dksX1_undo_0 20 rfl rfl)
theorem dX1_undo_23 : decode cX1_undo 23 = .ok (.invokevirtual 401, 3) := dk_182 1 145 (dk_at dksX1_undo_1 0 rfl rfl)
theorem dX1_undo_26 : decode cX1_undo 26 = .ok (.checkcast 35, 3) := dk_192 0 35 (dk_at dksX1_undo_1 3 rfl rfl)
theorem dX1_undo_29 : decode cX1_undo 29 = .ok (.putfield 40, 3) := dk_181 0 40 (dk_at dksX1_undo_1 6 rfl rfl)
theorem dX1_undo_32 : decode cX1_undo 32 = .ok (.aload_n 0, 1) := dk_42 (dk_at dksX1_undo_1 9 rfl rfl)
theorem dX1_undo_33 : decode cX1_undo 33 = .ok (.getfield 21, 3) := dk_180 0 21 (dk_at dksX1_undo_1 10 rfl rfl)
theorem dX1_undo_36 : decode cX1_undo 36 = .ok (.invokevirtual 56, 3) := dk_182 0 56 (dk_at dksX1_undo_1 13 rfl rfl)
theorem dX1_undo_39 : decode cX1_undo 39 = .ok (.ireturn, 1) := dk_172 (dk_at dksX1_undo_1 16 rfl rfl)
abbrev cX1_restoreSnapshot : ByteArray := prog_1_method_67_code
def yX1_restoreSnapshot : MethodName := ⟨RX1, "restoreSnapshot", "()I"⟩
def dkwX1_restoreSnapshot_1 : List UInt8 := [181, 0, 40, 42, 180, 0, 21, 182, 0, 161, 42, 180, 0, 40, 180, 0, 228, 185, 0, 117, 1, 0, 172]
abbrev dktX1_restoreSnapshot_1 : List UInt8 := dkwX1_restoreSnapshot_1 ++ []
def dkwX1_restoreSnapshot_0 : List UInt8 := [42, 180, 0, 164, 199, 0, 11, 187, 1, 142, 89, 183, 1, 144, 191, 42, 42, 180, 0, 164, 182, 0, 68]
abbrev dktX1_restoreSnapshot_0 : List UInt8 := dkwX1_restoreSnapshot_0 ++ dktX1_restoreSnapshot_1
theorem dksX1_restoreSnapshot_0 : cX1_restoreSnapshot.data.toList.drop 0 = dktX1_restoreSnapshot_0 := by decide +kernel
theorem dksX1_restoreSnapshot_1 : cX1_restoreSnapshot.data.toList.drop 23 = dktX1_restoreSnapshot_1 := dk_seg dksX1_restoreSnapshot_0 23 rfl rfl
theorem dX1_restoreSnapshot_0 : decode cX1_restoreSnapshot 0 = .ok (.aload_n 0, 1) := dk_42 (dk_at dksX1_restoreSnapshot_0 0 rfl rfl)
theorem dX1_restoreSnapshot_1 : decode cX1_restoreSnapshot 1 = .ok (.getfield 164, 3) := dk_180 0 164 (dk_at dksX1_restoreSnapshot_0 1 rfl rfl)
theorem dX1_restoreSnapshot_4 : decode cX1_restoreSnapshot 4 = .ok (.ifnonnull 11, 3) := dk_199 0 11 (dk_at dksX1_restoreSnapshot_0 4 rfl rfl)
theorem dX1_restoreSnapshot_7 : decode cX1_restoreSnapshot 7 = .ok (.new 398, 3) := dk_187 1 142 (dk_at dksX1_restoreSnapshot_0 7 rfl rfl)
theorem dX1_restoreSnapshot_10 : decode cX1_restoreSnapshot 10 = .ok (.dup, 1) := dk_89 (dk_at dksX1_restoreSnapshot_0 10 rfl rfl)
theorem dX1_restoreSnapshot_11 : decode cX1_restoreSnapshot 11 = .ok (.invokespecial 400, 3) := dk_183 1 144 (dk_at dksX1_restoreSnapshot_0 11 rfl rfl)
theorem dX1_restoreSnapshot_14 : decode cX1_restoreSnapshot 14 = .ok (.athrow, 1) := dk_191 (dk_at dksX1_restoreSnapshot_0 14 rfl rfl)
theorem dX1_restoreSnapshot_15 : decode cX1_restoreSnapshot 15 = .ok (.aload_n 0, 1) := dk_42 (dk_at dksX1_restoreSnapshot_0 15 rfl rfl)
theorem dX1_restoreSnapshot_16 : decode cX1_restoreSnapshot 16 = .ok (.aload_n 0, 1) := dk_42 (dk_at dksX1_restoreSnapshot_0 16 rfl rfl)
theorem dX1_restoreSnapshot_17 : decode cX1_restoreSnapshot 17 = .ok (.getfield 164, 3) := dk_180 0 164 (dk_at dksX1_restoreSnapshot_0 17 rfl rfl)
theorem dX1_restoreSnapshot_20 : decode cX1_restoreSnapshot 20 = .ok (.invokevirtual 68, 3) := dk_182 0 68 (dk_at dksX1_restoreSnapshot_0 20 rfl rfl)
theorem dX1_restoreSnapshot_23 : decode cX1_restoreSnapshot 23 = .ok (.putfield 40, 3) := dk_181 0 40 (dk_at dksX1_restoreSnapshot_1 0 rfl rfl)
theorem dX1_restoreSnapshot_26 : decode cX1_restoreSnapshot 26 = .ok (.aload_n 0, 1) := dk_42 (dk_at dksX1_restoreSnapshot_1 3 rfl rfl)
theorem dX1_restoreSnapshot_27 : decode cX1_restoreSnapshot 27 = .ok (.getfield 21, 3) := dk_180 0 21 (dk_at dksX1_restoreSnapshot_1 4 rfl rfl)
theorem dX1_restoreSnapshot_30 : decode cX1_restoreSnapshot 30 = .ok (.invokevirtual 161, 3) := dk_182 0 161 (dk_at dksX1_restoreSnapshot_1 7 rfl rfl)
theorem dX1_restoreSnapshot_33 : decode cX1_restoreSnapshot 33 = .ok (.aload_n 0, 1) := dk_42 (dk_at dksX1_restoreSnapshot_1 10 rfl rfl)
theorem dX1_restoreSnapshot_34 : decode cX1_restoreSnapshot 34 = .ok (.getfield 40, 3) := dk_180 0 40 (dk_at dksX1_restoreSnapshot_1 11 rfl rfl)
theorem dX1_restoreSnapshot_37 : decode cX1_restoreSnapshot 37 = .ok (.getfield 228, 3) := dk_180 0 228 (dk_at dksX1_restoreSnapshot_1 14 rfl rfl)
theorem dX1_restoreSnapshot_40 : decode cX1_restoreSnapshot 40 = .ok (.invokeinterface 117 1, 5) := by decide +kernel
theorem dX1_restoreSnapshot_45 : decode cX1_restoreSnapshot 45 = .ok (.ireturn, 1) := dk_172 (dk_at dksX1_restoreSnapshot_1 22 rfl rfl)
theorem q99 : (Jvm.Cond.initialized "PrinterClaims") ∈ lw_all := lw_g (lw_at lw_m1 1 rfl) rfl
theorem q156 : (Jvm.Cond.instantiable "PrinterClaims" (8 : Nat)) ∈ lw_all := lw_g (lw_at lw_m1 58 rfl) rfl
theorem q158 : (Jvm.Cond.instanceMethod ({ cls := "PrinterClaims", name := "<init>", desc := "()V" } : Jvm.MethodName)) ∈ lw_all := lw_g (lw_at lw_m1 60 rfl) rfl
theorem q159 : (Jvm.Cond.code ({ cls := "PrinterClaims", name := "<init>", desc := "()V" } : Jvm.MethodName) prog_1_method_5_code (2 : Nat) (Option.none : Option Jvm.ClassFile.FieldType)) ∈ lw_all := lw_g (lw_at lw_m1 61 rfl) rfl
theorem q160 : (Jvm.Cond.methodLink "PrinterClaims" (7 : Nat) ({ cls := "java/lang/Object", name := "<init>", desc := "()V" } : Jvm.MethodName)) ∈ lw_all := lw_g (lw_at lw_m1 62 rfl) rfl
theorem q163 : (Jvm.Cond.classLink "PrinterClaims" (18 : Nat) "java/util/ArrayDeque") ∈ lw_all := lw_g (lw_at lw_m1 65 rfl) rfl
theorem q165 : (Jvm.Cond.methodLink "PrinterClaims" (20 : Nat) ({ cls := "java/util/ArrayDeque", name := "<init>", desc := "()V" } : Jvm.MethodName)) ∈ lw_all := lw_g (lw_at lw_m1 67 rfl) rfl
theorem q185 : (Jvm.Cond.stringRef "PrinterClaims" (29 : Nat) "") ∈ lw_tbl := lw_at lw_m1 87 rfl
theorem q186 : (Jvm.Cond.classLink "PrinterClaims" (35 : Nat) "PrinterClaims$State") ∈ lw_all := lw_g (lw_at lw_m1 88 rfl) rfl
theorem q188 : (Jvm.Cond.methodLink "PrinterClaims" (37 : Nat) ({ cls := "PrinterClaims$State", name := "<init>", desc := "([I)V" } : Jvm.MethodName)) ∈ lw_all := lw_g (lw_at lw_m1 90 rfl) rfl
theorem q547 : (Jvm.Cond.fieldLinkNest "PrinterClaims" (170 : Nat) "PrinterClaims$State" "totals" "[I" "PrinterClaims") ∈ lw_tbl := lw_at lw_m2 209 rfl
theorem q552 : (Jvm.Cond.fieldLinkNest "PrinterClaims" (113 : Nat) "PrinterClaims$State" "offices" "Ljava/util/List;" "PrinterClaims") ∈ lw_tbl := lw_at lw_m2 214 rfl
theorem q556 : (Jvm.Cond.fieldLinkNest "PrinterClaims" (228 : Nat) "PrinterClaims$State" "wishes" "Ljava/util/List;" "PrinterClaims") ∈ lw_tbl := lw_at lw_m2 218 rfl
theorem q558 : (Jvm.Cond.fieldLinkNest "PrinterClaims" (301 : Nat) "PrinterClaims$State" "loaded" "I" "PrinterClaims") ∈ lw_tbl := lw_at lw_m2 220 rfl
theorem q560 : (Jvm.Cond.fieldLinkNest "PrinterClaims" (286 : Nat) "PrinterClaims$State" "granted" "I" "PrinterClaims") ∈ lw_tbl := lw_at lw_m2 222 rfl
theorem q562 : (Jvm.Cond.fieldLinkNest "PrinterClaims" (295 : Nat) "PrinterClaims$State" "grantedPrinters" "I" "PrinterClaims") ∈ lw_tbl := lw_at lw_m2 224 rfl
theorem q564 : (Jvm.Cond.fieldLinkNest "PrinterClaims" (289 : Nat) "PrinterClaims$State" "delayed" "I" "PrinterClaims") ∈ lw_tbl := lw_at lw_m2 226 rfl
theorem q566 : (Jvm.Cond.fieldLinkNest "PrinterClaims" (292 : Nat) "PrinterClaims$State" "\x75nsafe" "I" "PrinterClaims") ∈ lw_tbl := lw_at lw_m2 228 rfl
theorem q568 : (Jvm.Cond.fieldLinkNest "PrinterClaims" (298 : Nat) "PrinterClaims$State" "returned" "I" "PrinterClaims") ∈ lw_tbl := lw_at lw_m2 230 rfl
theorem q588 : (Jvm.Cond.methodLink "PrinterClaims" (44 : Nat) ({ cls := "PrinterClaims", name := "addFirst", desc := "([I)V" } : Jvm.MethodName)) ∈ lw_all := lw_g (lw_at lw_m3 10 rfl) rfl
theorem q589 : (Jvm.Cond.privateMethod ({ cls := "PrinterClaims", name := "addFirst", desc := "([I)V" } : Jvm.MethodName)) ∈ lw_tbl := lw_at lw_m3 11 rfl
theorem q590 : (Jvm.Cond.instanceMethod ({ cls := "PrinterClaims", name := "addFirst", desc := "([I)V" } : Jvm.MethodName)) ∈ lw_all := lw_g (lw_at lw_m3 12 rfl) rfl
theorem q591 : (Jvm.Cond.code ({ cls := "PrinterClaims", name := "addFirst", desc := "([I)V" } : Jvm.MethodName) prog_1_method_6_code (4 : Nat) (Option.none : Option Jvm.ClassFile.FieldType)) ∈ lw_all := lw_g (lw_at lw_m3 13 rfl) rfl
theorem q592 : (Jvm.Cond.classLink "PrinterClaims" (47 : Nat) "PrinterClaims$Office") ∈ lw_all := lw_g (lw_at lw_m3 14 rfl) rfl
theorem q594 : (Jvm.Cond.methodLink "PrinterClaims" (49 : Nat) ({ cls := "PrinterClaims$Office", name := "<init>", desc := "([I[I)V" } : Jvm.MethodName)) ∈ lw_all := lw_g (lw_at lw_m3 16 rfl) rfl
theorem q601 : (Jvm.Cond.fieldLinkNest "PrinterClaims" (192 : Nat) "PrinterClaims$Office" "claims" "[I" "PrinterClaims") ∈ lw_tbl := lw_at lw_m3 23 rfl
theorem q606 : (Jvm.Cond.fieldLinkNest "PrinterClaims" (195 : Nat) "PrinterClaims$Office" "allocations" "[I" "PrinterClaims") ∈ lw_tbl := lw_at lw_m3 28 rfl
theorem q612 : (Jvm.Cond.methodLink "PrinterClaims" (52 : Nat) ({ cls := "PrinterClaims$State", name := "add", desc := "(LPrinterClaims$Office;)V" } : Jvm.MethodName)) ∈ lw_all := lw_g (lw_at lw_m3 34 rfl) rfl
theorem q647 : (Jvm.Cond.selects "PrinterClaims" ({ cls := "java/lang/Object", name := "getClass", desc := "()Ljava/lang/Class;" } : Jvm.MethodName) ({ cls := "java/lang/Object", name := "getClass", desc := "()Ljava/lang/Class;" } : Jvm.MethodName)) ∈ lw_all := lw_g (lw_at lw_m3 69 rfl) rfl
theorem q694 : (Jvm.Cond.static ({ cls := "PrinterClaims", name := "sum", desc := "([I)I" } : Jvm.MethodName)) ∈ lw_all := lw_g (lw_at lw_m3 116 rfl) rfl
theorem q695 : (Jvm.Cond.code ({ cls := "PrinterClaims", name := "sum", desc := "([I)I" } : Jvm.MethodName) prog_1_method_3_code (6 : Nat) (Option.some Jvm.ClassFile.FieldType.int)) ∈ lw_all := lw_g (lw_at lw_m3 117 rfl) rfl
theorem q696 : (Jvm.Cond.fieldLink "PrinterClaims" (14 : Nat) "PrinterClaims" "buffer" "[B") ∈ lw_all := lw_g (lw_at lw_m3 118 rfl) rfl
theorem q697 : (Jvm.Cond.fieldLink "PrinterClaims" (21 : Nat) "PrinterClaims" "history" "Ljava/util/ArrayDeque;") ∈ lw_all := lw_g (lw_at lw_m3 119 rfl) rfl
theorem q698 : (Jvm.Cond.fieldLink "PrinterClaims" (130 : Nat) "PrinterClaims" "bufferLength" "I") ∈ lw_all := lw_g (lw_at lw_m3 120 rfl) rfl
theorem q699 : (Jvm.Cond.fieldLink "PrinterClaims" (127 : Nat) "PrinterClaims" "errorCode" "I") ∈ lw_all := lw_g (lw_at lw_m3 121 rfl) rfl
theorem q700 : (Jvm.Cond.fieldLink "PrinterClaims" (25 : Nat) "PrinterClaims" "errorOffset" "I") ∈ lw_all := lw_g (lw_at lw_m3 122 rfl) rfl
theorem q701 : (Jvm.Cond.fieldLink "PrinterClaims" (40 : Nat) "PrinterClaims" "state" "LPrinterClaims$State;") ∈ lw_all := lw_g (lw_at lw_m3 123 rfl) rfl
theorem q702 : (Jvm.Cond.fieldLink "PrinterClaims" (164 : Nat) "PrinterClaims" "snapshot" "LPrinterClaims$State;") ∈ lw_all := lw_g (lw_at lw_m3 124 rfl) rfl
theorem q703 : (Jvm.Cond.fieldLink "PrinterClaims" (31 : Nat) "PrinterClaims" "output" "Ljava/lang/String;") ∈ lw_all := lw_g (lw_at lw_m3 125 rfl) rfl
theorem q704 : (Jvm.Cond.laysFinal "PrinterClaims" "PrinterClaims" "buffer" "[B") ∈ lw_all := lw_g (lw_at lw_m3 126 rfl) rfl
theorem q705 : (Jvm.Cond.soleField "PrinterClaims" "buffer") ∈ lw_all := lw_g (lw_at lw_m3 127 rfl) rfl
theorem q706 : (Jvm.Cond.laysFinal "PrinterClaims" "PrinterClaims" "history" "Ljava/util/ArrayDeque;") ∈ lw_all := lw_g (lw_at lw_m3 128 rfl) rfl
theorem q707 : (Jvm.Cond.soleField "PrinterClaims" "history") ∈ lw_all := lw_g (lw_at lw_m3 129 rfl) rfl
theorem q708 : (Jvm.Cond.lays "PrinterClaims" "PrinterClaims" "bufferLength" "I") ∈ lw_all := lw_g (lw_at lw_m3 130 rfl) rfl
theorem q709 : (Jvm.Cond.soleField "PrinterClaims" "bufferLength") ∈ lw_all := lw_g (lw_at lw_m3 131 rfl) rfl
theorem q710 : (Jvm.Cond.lays "PrinterClaims" "PrinterClaims" "errorCode" "I") ∈ lw_all := lw_g (lw_at lw_m3 132 rfl) rfl
theorem q711 : (Jvm.Cond.soleField "PrinterClaims" "errorCode") ∈ lw_all := lw_g (lw_at lw_m3 133 rfl) rfl
theorem q712 : (Jvm.Cond.lays "PrinterClaims" "PrinterClaims" "errorOffset" "I") ∈ lw_all := lw_g (lw_at lw_m3 134 rfl) rfl
theorem q713 : (Jvm.Cond.soleField "PrinterClaims" "errorOffset") ∈ lw_all := lw_g (lw_at lw_m3 135 rfl) rfl
theorem q714 : (Jvm.Cond.lays "PrinterClaims" "PrinterClaims" "state" "LPrinterClaims$State;") ∈ lw_all := lw_g (lw_at lw_m3 136 rfl) rfl
theorem q715 : (Jvm.Cond.soleField "PrinterClaims" "state") ∈ lw_all := lw_g (lw_at lw_m3 137 rfl) rfl
theorem q716 : (Jvm.Cond.lays "PrinterClaims" "PrinterClaims" "snapshot" "LPrinterClaims$State;") ∈ lw_all := lw_g (lw_at lw_m3 138 rfl) rfl
theorem q717 : (Jvm.Cond.soleField "PrinterClaims" "snapshot") ∈ lw_all := lw_g (lw_at lw_m3 139 rfl) rfl
theorem q718 : (Jvm.Cond.lays "PrinterClaims" "PrinterClaims" "output" "Ljava/lang/String;") ∈ lw_all := lw_g (lw_at lw_m3 140 rfl) rfl
theorem q719 : (Jvm.Cond.soleField "PrinterClaims" "output") ∈ lw_all := lw_g (lw_at lw_m3 141 rfl) rfl
theorem q720 : (Jvm.Cond.superclass "PrinterClaims" "java/lang/Object") ∈ lw_all := lw_g (lw_at lw_m3 142 rfl) rfl
theorem q722 : (Jvm.Cond.instanceMethod ({ cls := "PrinterClaims", name := "appendText", desc := "(IIIII)I" } : Jvm.MethodName)) ∈ lw_all := lw_g (lw_at lw_m3 144 rfl) rfl
theorem q723 : (Jvm.Cond.selects "PrinterClaims" ({ cls := "PrinterClaims", name := "appendText", desc := "(IIIII)I" } : Jvm.MethodName) ({ cls := "PrinterClaims", name := "appendText", desc := "(IIIII)I" } : Jvm.MethodName)) ∈ lw_all := lw_g (lw_at lw_m3 145 rfl) rfl
theorem q724 : (Jvm.Cond.code ({ cls := "PrinterClaims", name := "appendText", desc := "(IIIII)I" } : Jvm.MethodName) prog_1_method_15_code (12 : Nat) (Option.some Jvm.ClassFile.FieldType.int)) ∈ lw_all := lw_g (lw_at lw_m3 146 rfl) rfl
theorem q726 : (Jvm.Cond.instanceMethod ({ cls := "PrinterClaims", name := "errorCode", desc := "()I" } : Jvm.MethodName)) ∈ lw_all := lw_g (lw_at lw_m3 148 rfl) rfl
theorem q727 : (Jvm.Cond.selects "PrinterClaims" ({ cls := "PrinterClaims", name := "errorCode", desc := "()I" } : Jvm.MethodName) ({ cls := "PrinterClaims", name := "errorCode", desc := "()I" } : Jvm.MethodName)) ∈ lw_all := lw_g (lw_at lw_m3 149 rfl) rfl
theorem q728 : (Jvm.Cond.code ({ cls := "PrinterClaims", name := "errorCode", desc := "()I" } : Jvm.MethodName) prog_1_method_17_code (1 : Nat) (Option.some Jvm.ClassFile.FieldType.int)) ∈ lw_all := lw_g (lw_at lw_m3 150 rfl) rfl
theorem q730 : (Jvm.Cond.instanceMethod ({ cls := "PrinterClaims", name := "errorOffset", desc := "()I" } : Jvm.MethodName)) ∈ lw_all := lw_g (lw_at lw_m3 152 rfl) rfl
theorem q731 : (Jvm.Cond.selects "PrinterClaims" ({ cls := "PrinterClaims", name := "errorOffset", desc := "()I" } : Jvm.MethodName) ({ cls := "PrinterClaims", name := "errorOffset", desc := "()I" } : Jvm.MethodName)) ∈ lw_all := lw_g (lw_at lw_m3 153 rfl) rfl
theorem q732 : (Jvm.Cond.code ({ cls := "PrinterClaims", name := "errorOffset", desc := "()I" } : Jvm.MethodName) prog_1_method_18_code (1 : Nat) (Option.some Jvm.ClassFile.FieldType.int)) ∈ lw_all := lw_g (lw_at lw_m3 154 rfl) rfl
theorem q734 : (Jvm.Cond.instanceMethod ({ cls := "PrinterClaims", name := "kindCount", desc := "()I" } : Jvm.MethodName)) ∈ lw_all := lw_g (lw_at lw_m3 156 rfl) rfl
theorem q735 : (Jvm.Cond.selects "PrinterClaims" ({ cls := "PrinterClaims", name := "kindCount", desc := "()I" } : Jvm.MethodName) ({ cls := "PrinterClaims", name := "kindCount", desc := "()I" } : Jvm.MethodName)) ∈ lw_all := lw_g (lw_at lw_m3 157 rfl) rfl
theorem q736 : (Jvm.Cond.code ({ cls := "PrinterClaims", name := "kindCount", desc := "()I" } : Jvm.MethodName) prog_1_method_19_code (1 : Nat) (Option.some Jvm.ClassFile.FieldType.int)) ∈ lw_all := lw_g (lw_at lw_m3 158 rfl) rfl
theorem q737 : (Jvm.Cond.methodLink "PrinterClaims" (167 : Nat) ({ cls := "PrinterClaims$State", name := "kinds", desc := "()I" } : Jvm.MethodName)) ∈ lw_all := lw_g (lw_at lw_m3 159 rfl) rfl
theorem q742 : (Jvm.Cond.instanceMethod ({ cls := "PrinterClaims", name := "scarcestKind", desc := "()I" } : Jvm.MethodName)) ∈ lw_all := lw_g (lw_at lw_m3 164 rfl) rfl
theorem q743 : (Jvm.Cond.selects "PrinterClaims" ({ cls := "PrinterClaims", name := "scarcestKind", desc := "()I" } : Jvm.MethodName) ({ cls := "PrinterClaims", name := "scarcestKind", desc := "()I" } : Jvm.MethodName)) ∈ lw_all := lw_g (lw_at lw_m3 165 rfl) rfl
theorem q744 : (Jvm.Cond.code ({ cls := "PrinterClaims", name := "scarcestKind", desc := "()I" } : Jvm.MethodName) prog_1_method_23_code (3 : Nat) (Option.some Jvm.ClassFile.FieldType.int)) ∈ lw_all := lw_g (lw_at lw_m3 166 rfl) rfl
theorem q745 : (Jvm.Cond.methodLink "PrinterClaims" (174 : Nat) ({ cls := "PrinterClaims$State", name := "available", desc := "(I)I" } : Jvm.MethodName)) ∈ lw_all := lw_g (lw_at lw_m3 167 rfl) rfl
theorem q779 : (Jvm.Cond.instanceMethod ({ cls := "PrinterClaims", name := "utilization", desc := "()F" } : Jvm.MethodName)) ∈ lw_all := lw_g (lw_at lw_m3 201 rfl) rfl
theorem q780 : (Jvm.Cond.selects "PrinterClaims" ({ cls := "PrinterClaims", name := "utilization", desc := "()F" } : Jvm.MethodName) ({ cls := "PrinterClaims", name := "utilization", desc := "()F" } : Jvm.MethodName)) ∈ lw_all := lw_g (lw_at lw_m3 202 rfl) rfl
theorem q781 : (Jvm.Cond.code ({ cls := "PrinterClaims", name := "utilization", desc := "()F" } : Jvm.MethodName) prog_1_method_24_code (2 : Nat) (Option.some Jvm.ClassFile.FieldType.float)) ∈ lw_all := lw_g (lw_at lw_m3 203 rfl) rfl
theorem q782 : (Jvm.Cond.methodLink "PrinterClaims" (181 : Nat) ({ cls := "PrinterClaims", name := "sum", desc := "([I)I" } : Jvm.MethodName)) ∈ lw_all := lw_g (lw_at lw_m3 204 rfl) rfl
theorem q783 : (Jvm.Cond.methodLink "PrinterClaims" (185 : Nat) ({ cls := "PrinterClaims$State", name := "allocated", desc := "()I" } : Jvm.MethodName)) ∈ lw_all := lw_g (lw_at lw_m3 205 rfl) rfl
theorem q788 : (Jvm.Cond.instanceMethod ({ cls := "PrinterClaims", name := "officeCount", desc := "()I" } : Jvm.MethodName)) ∈ lw_all := lw_g (lw_at lw_m3 210 rfl) rfl
theorem q789 : (Jvm.Cond.selects "PrinterClaims" ({ cls := "PrinterClaims", name := "officeCount", desc := "()I" } : Jvm.MethodName) ({ cls := "PrinterClaims", name := "officeCount", desc := "()I" } : Jvm.MethodName)) ∈ lw_all := lw_g (lw_at lw_m3 211 rfl) rfl
theorem q790 : (Jvm.Cond.code ({ cls := "PrinterClaims", name := "officeCount", desc := "()I" } : Jvm.MethodName) prog_1_method_25_code (1 : Nat) (Option.some Jvm.ClassFile.FieldType.int)) ∈ lw_all := lw_g (lw_at lw_m3 212 rfl) rfl
theorem q791 : (Jvm.Cond.interfaceEntry "PrinterClaims" (117 : Nat)) ∈ lw_tbl := lw_at lw_m3 213 rfl
theorem q792 : (Jvm.Cond.methodLink "PrinterClaims" (117 : Nat) ({ cls := "java/util/List", name := "size", desc := "()I" } : Jvm.MethodName)) ∈ lw_all := lw_g (lw_at lw_m3 214 rfl) rfl
theorem q794 : (Jvm.Cond.instanceMethod ({ cls := "PrinterClaims", name := "finisherCount", desc := "()I" } : Jvm.MethodName)) ∈ lw_all := lw_g (lw_at lw_m3 216 rfl) rfl
theorem q795 : (Jvm.Cond.selects "PrinterClaims" ({ cls := "PrinterClaims", name := "finisherCount", desc := "()I" } : Jvm.MethodName) ({ cls := "PrinterClaims", name := "finisherCount", desc := "()I" } : Jvm.MethodName)) ∈ lw_all := lw_g (lw_at lw_m3 217 rfl) rfl
theorem q796 : (Jvm.Cond.code ({ cls := "PrinterClaims", name := "finisherCount", desc := "()I" } : Jvm.MethodName) prog_1_method_30_code (5 : Nat) (Option.some Jvm.ClassFile.FieldType.int)) ∈ lw_all := lw_g (lw_at lw_m3 218 rfl) rfl
theorem q797 : (Jvm.Cond.methodLink "PrinterClaims" (201 : Nat) ({ cls := "PrinterClaims$State", name := "available", desc := "()[I" } : Jvm.MethodName)) ∈ lw_all := lw_g (lw_at lw_m3 219 rfl) rfl
theorem q802 : (Jvm.Cond.interfaceEntry "PrinterClaims" (208 : Nat)) ∈ lw_tbl := lw_at lw_m3 224 rfl
theorem q803 : (Jvm.Cond.methodLink "PrinterClaims" (208 : Nat) ({ cls := "java/util/List", name := "iterator", desc := "()Ljava/util/Iterator;" } : Jvm.MethodName)) ∈ lw_all := lw_g (lw_at lw_m3 225 rfl) rfl
theorem q830 : (Jvm.Cond.interfaceEntry "PrinterClaims" (212 : Nat)) ∈ lw_tbl := lw_at lw_m4 12 rfl
theorem q831 : (Jvm.Cond.methodLink "PrinterClaims" (212 : Nat) ({ cls := "java/util/Iterator", name := "hasNext", desc := "()Z" } : Jvm.MethodName)) ∈ lw_all := lw_g (lw_at lw_m4 13 rfl) rfl
theorem q840 : (Jvm.Cond.interfaceEntry "PrinterClaims" (218 : Nat)) ∈ lw_tbl := lw_at lw_m4 22 rfl
theorem q841 : (Jvm.Cond.methodLink "PrinterClaims" (218 : Nat) ({ cls := "java/util/Iterator", name := "next", desc := "()Ljava/lang/Object;" } : Jvm.MethodName)) ∈ lw_all := lw_g (lw_at lw_m4 23 rfl) rfl
theorem q853 : (Jvm.Cond.methodLink "PrinterClaims" (204 : Nat) ({ cls := "PrinterClaims$Office", name := "fits", desc := "([I)Z" } : Jvm.MethodName)) ∈ lw_all := lw_g (lw_at lw_m4 35 rfl) rfl
theorem q861 : (Jvm.Cond.methodLink "PrinterClaims" (221 : Nat) ({ cls := "PrinterClaims", name := "bit", desc := "(Z)I" } : Jvm.MethodName)) ∈ lw_all := lw_g (lw_at lw_m4 43 rfl) rfl
theorem q862 : (Jvm.Cond.static ({ cls := "PrinterClaims", name := "bit", desc := "(Z)I" } : Jvm.MethodName)) ∈ lw_all := lw_g (lw_at lw_m4 44 rfl) rfl
theorem q863 : (Jvm.Cond.code ({ cls := "PrinterClaims", name := "bit", desc := "(Z)I" } : Jvm.MethodName) prog_1_method_2_code (1 : Nat) (Option.some Jvm.ClassFile.FieldType.int)) ∈ lw_all := lw_g (lw_at lw_m4 45 rfl) rfl
theorem q865 : (Jvm.Cond.instanceMethod ({ cls := "PrinterClaims", name := "greatestHolder", desc := "()I" } : Jvm.MethodName)) ∈ lw_all := lw_g (lw_at lw_m4 47 rfl) rfl
theorem q866 : (Jvm.Cond.selects "PrinterClaims" ({ cls := "PrinterClaims", name := "greatestHolder", desc := "()I" } : Jvm.MethodName) ({ cls := "PrinterClaims", name := "greatestHolder", desc := "()I" } : Jvm.MethodName)) ∈ lw_all := lw_g (lw_at lw_m4 48 rfl) rfl
theorem q867 : (Jvm.Cond.code ({ cls := "PrinterClaims", name := "greatestHolder", desc := "()I" } : Jvm.MethodName) prog_1_method_31_code (3 : Nat) (Option.some Jvm.ClassFile.FieldType.int)) ∈ lw_all := lw_g (lw_at lw_m4 49 rfl) rfl
theorem q868 : (Jvm.Cond.methodLink "PrinterClaims" (99 : Nat) ({ cls := "PrinterClaims$State", name := "get", desc := "(I)LPrinterClaims$Office;" } : Jvm.MethodName)) ∈ lw_all := lw_g (lw_at lw_m4 50 rfl) rfl
theorem q873 : (Jvm.Cond.instanceMethod ({ cls := "PrinterClaims", name := "meanNeed", desc := "()D" } : Jvm.MethodName)) ∈ lw_all := lw_g (lw_at lw_m4 55 rfl) rfl
theorem q874 : (Jvm.Cond.selects "PrinterClaims" ({ cls := "PrinterClaims", name := "meanNeed", desc := "()D" } : Jvm.MethodName) ({ cls := "PrinterClaims", name := "meanNeed", desc := "()D" } : Jvm.MethodName)) ∈ lw_all := lw_g (lw_at lw_m4 56 rfl) rfl
theorem q875 : (Jvm.Cond.code ({ cls := "PrinterClaims", name := "meanNeed", desc := "()D" } : Jvm.MethodName) prog_1_method_32_code (4 : Nat) (Option.some Jvm.ClassFile.FieldType.double)) ∈ lw_all := lw_g (lw_at lw_m4 57 rfl) rfl
theorem q876 : (Jvm.Cond.methodLink "PrinterClaims" (225 : Nat) ({ cls := "PrinterClaims$Office", name := "needInAll", desc := "()I" } : Jvm.MethodName)) ∈ lw_all := lw_g (lw_at lw_m4 58 rfl) rfl
theorem q882 : (Jvm.Cond.instanceMethod ({ cls := "PrinterClaims", name := "waitingCount", desc := "()I" } : Jvm.MethodName)) ∈ lw_all := lw_g (lw_at lw_m4 64 rfl) rfl
theorem q883 : (Jvm.Cond.selects "PrinterClaims" ({ cls := "PrinterClaims", name := "waitingCount", desc := "()I" } : Jvm.MethodName) ({ cls := "PrinterClaims", name := "waitingCount", desc := "()I" } : Jvm.MethodName)) ∈ lw_all := lw_g (lw_at lw_m4 65 rfl) rfl
theorem q884 : (Jvm.Cond.code ({ cls := "PrinterClaims", name := "waitingCount", desc := "()I" } : Jvm.MethodName) prog_1_method_33_code (1 : Nat) (Option.some Jvm.ClassFile.FieldType.int)) ∈ lw_all := lw_g (lw_at lw_m4 66 rfl) rfl
theorem q886 : (Jvm.Cond.instanceMethod ({ cls := "PrinterClaims", name := "waitingOffice", desc := "(I)I" } : Jvm.MethodName)) ∈ lw_all := lw_g (lw_at lw_m4 68 rfl) rfl
theorem q887 : (Jvm.Cond.selects "PrinterClaims" ({ cls := "PrinterClaims", name := "waitingOffice", desc := "(I)I" } : Jvm.MethodName) ({ cls := "PrinterClaims", name := "waitingOffice", desc := "(I)I" } : Jvm.MethodName)) ∈ lw_all := lw_g (lw_at lw_m4 69 rfl) rfl
theorem q888 : (Jvm.Cond.code ({ cls := "PrinterClaims", name := "waitingOffice", desc := "(I)I" } : Jvm.MethodName) prog_1_method_34_code (2 : Nat) (Option.some Jvm.ClassFile.FieldType.int)) ∈ lw_all := lw_g (lw_at lw_m4 70 rfl) rfl
theorem q889 : (Jvm.Cond.methodLink "PrinterClaims" (120 : Nat) ({ cls := "PrinterClaims", name := "inRange", desc := "(III)Z" } : Jvm.MethodName)) ∈ lw_all := lw_g (lw_at lw_m4 71 rfl) rfl
theorem q890 : (Jvm.Cond.static ({ cls := "PrinterClaims", name := "inRange", desc := "(III)Z" } : Jvm.MethodName)) ∈ lw_all := lw_g (lw_at lw_m4 72 rfl) rfl
theorem q891 : (Jvm.Cond.code ({ cls := "PrinterClaims", name := "inRange", desc := "(III)Z" } : Jvm.MethodName) prog_1_method_1_code (3 : Nat) (Option.some Jvm.ClassFile.FieldType.boolean)) ∈ lw_all := lw_g (lw_at lw_m4 73 rfl) rfl
theorem q892 : (Jvm.Cond.interfaceEntry "PrinterClaims" (231 : Nat)) ∈ lw_tbl := lw_at lw_m4 74 rfl
theorem q893 : (Jvm.Cond.methodLink "PrinterClaims" (231 : Nat) ({ cls := "java/util/List", name := "get", desc := "(I)Ljava/lang/Object;" } : Jvm.MethodName)) ∈ lw_all := lw_g (lw_at lw_m4 75 rfl) rfl
theorem q894 : (Jvm.Cond.classLink "PrinterClaims" (234 : Nat) "PrinterClaims$Wish") ∈ lw_all := lw_g (lw_at lw_m4 76 rfl) rfl
theorem q895 : (Jvm.Cond.methodLink "PrinterClaims" (236 : Nat) ({ cls := "PrinterClaims$Wish", name := "office", desc := "()I" } : Jvm.MethodName)) ∈ lw_all := lw_g (lw_at lw_m4 77 rfl) rfl
theorem q900 : (Jvm.Cond.instanceMethod ({ cls := "PrinterClaims", name := "sequenceCount", desc := "()I" } : Jvm.MethodName)) ∈ lw_all := lw_g (lw_at lw_m4 82 rfl) rfl
theorem q901 : (Jvm.Cond.selects "PrinterClaims" ({ cls := "PrinterClaims", name := "sequenceCount", desc := "()I" } : Jvm.MethodName) ({ cls := "PrinterClaims", name := "sequenceCount", desc := "()I" } : Jvm.MethodName)) ∈ lw_all := lw_g (lw_at lw_m4 83 rfl) rfl
theorem q902 : (Jvm.Cond.code ({ cls := "PrinterClaims", name := "sequenceCount", desc := "()I" } : Jvm.MethodName) prog_1_method_41_code (1 : Nat) (Option.some Jvm.ClassFile.FieldType.int)) ∈ lw_all := lw_g (lw_at lw_m4 84 rfl) rfl
theorem q903 : (Jvm.Cond.classLink "PrinterClaims" (263 : Nat) "PrinterClaims$Counting") ∈ lw_all := lw_g (lw_at lw_m4 85 rfl) rfl
theorem q905 : (Jvm.Cond.methodLink "PrinterClaims" (265 : Nat) ({ cls := "PrinterClaims$Counting", name := "<init>", desc := "(LPrinterClaims$State;)V" } : Jvm.MethodName)) ∈ lw_all := lw_g (lw_at lw_m4 87 rfl) rfl
theorem q933 : (Jvm.Cond.methodLink "PrinterClaims" (267 : Nat) ({ cls := "PrinterClaims$Counting", name := "all", desc := "()I" } : Jvm.MethodName)) ∈ lw_all := lw_g (lw_at lw_m4 115 rfl) rfl
theorem q938 : (Jvm.Cond.instanceMethod ({ cls := "PrinterClaims", name := "grantedRequests", desc := "()I" } : Jvm.MethodName)) ∈ lw_all := lw_g (lw_at lw_m4 120 rfl) rfl
theorem q939 : (Jvm.Cond.selects "PrinterClaims" ({ cls := "PrinterClaims", name := "grantedRequests", desc := "()I" } : Jvm.MethodName) ({ cls := "PrinterClaims", name := "grantedRequests", desc := "()I" } : Jvm.MethodName)) ∈ lw_all := lw_g (lw_at lw_m4 121 rfl) rfl
theorem q940 : (Jvm.Cond.code ({ cls := "PrinterClaims", name := "grantedRequests", desc := "()I" } : Jvm.MethodName) prog_1_method_47_code (1 : Nat) (Option.some Jvm.ClassFile.FieldType.int)) ∈ lw_all := lw_g (lw_at lw_m4 122 rfl) rfl
theorem q942 : (Jvm.Cond.instanceMethod ({ cls := "PrinterClaims", name := "delayedRequests", desc := "()I" } : Jvm.MethodName)) ∈ lw_all := lw_g (lw_at lw_m4 124 rfl) rfl
theorem q943 : (Jvm.Cond.selects "PrinterClaims" ({ cls := "PrinterClaims", name := "delayedRequests", desc := "()I" } : Jvm.MethodName) ({ cls := "PrinterClaims", name := "delayedRequests", desc := "()I" } : Jvm.MethodName)) ∈ lw_all := lw_g (lw_at lw_m4 125 rfl) rfl
theorem q944 : (Jvm.Cond.code ({ cls := "PrinterClaims", name := "delayedRequests", desc := "()I" } : Jvm.MethodName) prog_1_method_48_code (1 : Nat) (Option.some Jvm.ClassFile.FieldType.int)) ∈ lw_all := lw_g (lw_at lw_m4 126 rfl) rfl
theorem q946 : (Jvm.Cond.instanceMethod ({ cls := "PrinterClaims", name := "unsafeRequests", desc := "()I" } : Jvm.MethodName)) ∈ lw_all := lw_g (lw_at lw_m4 128 rfl) rfl
theorem q947 : (Jvm.Cond.selects "PrinterClaims" ({ cls := "PrinterClaims", name := "unsafeRequests", desc := "()I" } : Jvm.MethodName) ({ cls := "PrinterClaims", name := "unsafeRequests", desc := "()I" } : Jvm.MethodName)) ∈ lw_all := lw_g (lw_at lw_m4 129 rfl) rfl
theorem q948 : (Jvm.Cond.code ({ cls := "PrinterClaims", name := "unsafeRequests", desc := "()I" } : Jvm.MethodName) prog_1_method_49_code (1 : Nat) (Option.some Jvm.ClassFile.FieldType.int)) ∈ lw_all := lw_g (lw_at lw_m4 130 rfl) rfl
theorem q950 : (Jvm.Cond.instanceMethod ({ cls := "PrinterClaims", name := "grantedPrinters", desc := "()I" } : Jvm.MethodName)) ∈ lw_all := lw_g (lw_at lw_m4 132 rfl) rfl
theorem q951 : (Jvm.Cond.selects "PrinterClaims" ({ cls := "PrinterClaims", name := "grantedPrinters", desc := "()I" } : Jvm.MethodName) ({ cls := "PrinterClaims", name := "grantedPrinters", desc := "()I" } : Jvm.MethodName)) ∈ lw_all := lw_g (lw_at lw_m4 133 rfl) rfl
theorem q952 : (Jvm.Cond.code ({ cls := "PrinterClaims", name := "grantedPrinters", desc := "()I" } : Jvm.MethodName) prog_1_method_50_code (1 : Nat) (Option.some Jvm.ClassFile.FieldType.int)) ∈ lw_all := lw_g (lw_at lw_m4 134 rfl) rfl
theorem q954 : (Jvm.Cond.instanceMethod ({ cls := "PrinterClaims", name := "returnedPrinters", desc := "()I" } : Jvm.MethodName)) ∈ lw_all := lw_g (lw_at lw_m4 136 rfl) rfl
theorem q955 : (Jvm.Cond.selects "PrinterClaims" ({ cls := "PrinterClaims", name := "returnedPrinters", desc := "()I" } : Jvm.MethodName) ({ cls := "PrinterClaims", name := "returnedPrinters", desc := "()I" } : Jvm.MethodName)) ∈ lw_all := lw_g (lw_at lw_m4 137 rfl) rfl
theorem q956 : (Jvm.Cond.code ({ cls := "PrinterClaims", name := "returnedPrinters", desc := "()I" } : Jvm.MethodName) prog_1_method_51_code (1 : Nat) (Option.some Jvm.ClassFile.FieldType.int)) ∈ lw_all := lw_g (lw_at lw_m4 138 rfl) rfl
theorem q958 : (Jvm.Cond.instanceMethod ({ cls := "PrinterClaims", name := "ledgerGap", desc := "()I" } : Jvm.MethodName)) ∈ lw_all := lw_g (lw_at lw_m4 140 rfl) rfl
theorem q959 : (Jvm.Cond.selects "PrinterClaims" ({ cls := "PrinterClaims", name := "ledgerGap", desc := "()I" } : Jvm.MethodName) ({ cls := "PrinterClaims", name := "ledgerGap", desc := "()I" } : Jvm.MethodName)) ∈ lw_all := lw_g (lw_at lw_m4 141 rfl) rfl
theorem q960 : (Jvm.Cond.code ({ cls := "PrinterClaims", name := "ledgerGap", desc := "()I" } : Jvm.MethodName) prog_1_method_52_code (1 : Nat) (Option.some Jvm.ClassFile.FieldType.int)) ∈ lw_all := lw_g (lw_at lw_m4 142 rfl) rfl
theorem q961 : (Jvm.Cond.methodLink "PrinterClaims" (304 : Nat) ({ cls := "java/lang/Math", name := "abs", desc := "(I)I" } : Jvm.MethodName)) ∈ lw_all := lw_g (lw_at lw_m4 143 rfl) rfl
theorem q965 : (Jvm.Cond.instanceMethod ({ cls := "PrinterClaims", name := "undoableCount", desc := "()I" } : Jvm.MethodName)) ∈ lw_all := lw_g (lw_at lw_m4 147 rfl) rfl
theorem q966 : (Jvm.Cond.selects "PrinterClaims" ({ cls := "PrinterClaims", name := "undoableCount", desc := "()I" } : Jvm.MethodName) ({ cls := "PrinterClaims", name := "undoableCount", desc := "()I" } : Jvm.MethodName)) ∈ lw_all := lw_g (lw_at lw_m4 148 rfl) rfl
theorem q967 : (Jvm.Cond.code ({ cls := "PrinterClaims", name := "undoableCount", desc := "()I" } : Jvm.MethodName) prog_1_method_64_code (1 : Nat) (Option.some Jvm.ClassFile.FieldType.int)) ∈ lw_all := lw_g (lw_at lw_m4 149 rfl) rfl
theorem q968 : (Jvm.Cond.methodLink "PrinterClaims" (56 : Nat) ({ cls := "java/util/ArrayDeque", name := "size", desc := "()I" } : Jvm.MethodName)) ∈ lw_all := lw_g (lw_at lw_m4 150 rfl) rfl
theorem q976 : (Jvm.Cond.instanceMethod ({ cls := "PrinterClaims", name := "saveSnapshot", desc := "()V" } : Jvm.MethodName)) ∈ lw_all := lw_g (lw_at lw_m4 158 rfl) rfl
theorem q977 : (Jvm.Cond.selects "PrinterClaims" ({ cls := "PrinterClaims", name := "saveSnapshot", desc := "()V" } : Jvm.MethodName) ({ cls := "PrinterClaims", name := "saveSnapshot", desc := "()V" } : Jvm.MethodName)) ∈ lw_all := lw_g (lw_at lw_m4 159 rfl) rfl
theorem q978 : (Jvm.Cond.code ({ cls := "PrinterClaims", name := "saveSnapshot", desc := "()V" } : Jvm.MethodName) prog_1_method_66_code (1 : Nat) (Option.none : Option Jvm.ClassFile.FieldType)) ∈ lw_all := lw_g (lw_at lw_m4 160 rfl) rfl
theorem q979 : (Jvm.Cond.methodLink "PrinterClaims" (68 : Nat) ({ cls := "PrinterClaims$State", name := "copy", desc := "()LPrinterClaims$State;" } : Jvm.MethodName)) ∈ lw_all := lw_g (lw_at lw_m4 161 rfl) rfl
theorem q1004 : (Jvm.Cond.instanceMethod ({ cls := "PrinterClaims", name := "loadSystem", desc := "(I)I" } : Jvm.MethodName)) ∈ lw_all := lw_g (lw_at lw_m4 186 rfl) rfl
theorem q1005 : (Jvm.Cond.selects "PrinterClaims" ({ cls := "PrinterClaims", name := "loadSystem", desc := "(I)I" } : Jvm.MethodName) ({ cls := "PrinterClaims", name := "loadSystem", desc := "(I)I" } : Jvm.MethodName)) ∈ lw_all := lw_g (lw_at lw_m4 187 rfl) rfl
theorem q1006 : (Jvm.Cond.codeWith ({ cls := "PrinterClaims", name := "loadSystem", desc := "(I)I" } : Jvm.MethodName) prog_1_method_16_code (3 : Nat) (Option.some Jvm.ClassFile.FieldType.int) [((15 : Nat), (34 : Nat), (37 : Nat), (145 : Nat)), ((15 : Nat), (34 : Nat), (37 : Nat), (147 : Nat)), ((15 : Nat), (34 : Nat), (51 : Nat), (150 : Nat))]) ∈ lw_all := lw_g (lw_at lw_m4 188 rfl) rfl
theorem q1007 : (Jvm.Cond.classLink "PrinterClaims" (145 : Nat) "PrinterClaims$SumException") ∈ lw_all := lw_g (lw_at lw_m4 189 rfl) rfl
theorem q1008 : (Jvm.Cond.classLink "PrinterClaims" (147 : Nat) "PrinterClaims$UnsafeException") ∈ lw_all := lw_g (lw_at lw_m4 190 rfl) rfl
theorem q1009 : (Jvm.Cond.classLink "PrinterClaims" (150 : Nat) "PrinterClaims$TextException") ∈ lw_all := lw_g (lw_at lw_m4 191 rfl) rfl
theorem q1010 : (Jvm.Cond.methodLink "PrinterClaims" (133 : Nat) ({ cls := "PrinterClaims", name := "requireRange", desc := "(III)V" } : Jvm.MethodName)) ∈ lw_all := lw_g (lw_at lw_m4 192 rfl) rfl
theorem q1011 : (Jvm.Cond.privateMethod ({ cls := "PrinterClaims", name := "requireRange", desc := "(III)V" } : Jvm.MethodName)) ∈ lw_tbl := lw_at lw_m4 193 rfl
theorem q1012 : (Jvm.Cond.instanceMethod ({ cls := "PrinterClaims", name := "requireRange", desc := "(III)V" } : Jvm.MethodName)) ∈ lw_all := lw_g (lw_at lw_m4 194 rfl) rfl
theorem q1013 : (Jvm.Cond.code ({ cls := "PrinterClaims", name := "requireRange", desc := "(III)V" } : Jvm.MethodName) prog_1_method_13_code (4 : Nat) (Option.none : Option Jvm.ClassFile.FieldType)) ∈ lw_all := lw_g (lw_at lw_m4 195 rfl) rfl
theorem q1014 : (Jvm.Cond.classLink "PrinterClaims" (124 : Nat) "java/lang/IllegalArgumentException") ∈ lw_all := lw_g (lw_at lw_m4 196 rfl) rfl
theorem q1015 : (Jvm.Cond.methodLink "PrinterClaims" (126 : Nat) ({ cls := "java/lang/IllegalArgumentException", name := "<init>", desc := "()V" } : Jvm.MethodName)) ∈ lw_all := lw_g (lw_at lw_m4 197 rfl) rfl
theorem q1025 : (Jvm.Cond.classLink "PrinterClaims" (137 : Nat) "PrinterClaims$Reader") ∈ lw_all := lw_g (lw_at lw_m4 207 rfl) rfl
theorem q1027 : (Jvm.Cond.methodLink "PrinterClaims" (139 : Nat) ({ cls := "PrinterClaims$Reader", name := "<init>", desc := "([BI)V" } : Jvm.MethodName)) ∈ lw_all := lw_g (lw_at lw_m4 209 rfl) rfl
theorem q1110 : (Jvm.Cond.methodLink "PrinterClaims" (142 : Nat) ({ cls := "PrinterClaims$Reader", name := "read", desc := "()LPrinterClaims$State;" } : Jvm.MethodName)) ∈ lw_all := lw_g (lw_at lw_m5 52 rfl) rfl
theorem q1157 : (Jvm.Cond.fieldLink "PrinterClaims" (154 : Nat) "PrinterClaims$TextException" "offset" "I") ∈ lw_all := lw_g (lw_at lw_m5 99 rfl) rfl
theorem q1306 : (Jvm.Cond.fieldLinkNest "PrinterClaims" (257 : Nat) "PrinterClaims$Sequence" "order" "[I" "PrinterClaims") ∈ lw_tbl := lw_at lw_m6 8 rfl
theorem q1311 : (Jvm.Cond.fieldLinkNest "PrinterClaims" (260 : Nat) "PrinterClaims$Sequence" "seen" "[I" "PrinterClaims") ∈ lw_tbl := lw_at lw_m6 13 rfl
theorem q1344 : (Jvm.Cond.methodLink "PrinterClaims" (149 : Nat) ({ cls := "PrinterClaims$TextException", name := "code", desc := "()I" } : Jvm.MethodName)) ∈ lw_all := lw_g (lw_at lw_m6 46 rfl) rfl
theorem q1362 : (Jvm.Cond.methodLink "PrinterClaims" (157 : Nat) ({ cls := "PrinterClaims", name := "report", desc := "(II)I" } : Jvm.MethodName)) ∈ lw_all := lw_g (lw_at lw_m6 64 rfl) rfl
theorem q1363 : (Jvm.Cond.privateMethod ({ cls := "PrinterClaims", name := "report", desc := "(II)I" } : Jvm.MethodName)) ∈ lw_tbl := lw_at lw_m6 65 rfl
theorem q1364 : (Jvm.Cond.instanceMethod ({ cls := "PrinterClaims", name := "report", desc := "(II)I" } : Jvm.MethodName)) ∈ lw_all := lw_g (lw_at lw_m6 66 rfl) rfl
theorem q1365 : (Jvm.Cond.code ({ cls := "PrinterClaims", name := "report", desc := "(II)I" } : Jvm.MethodName) prog_1_method_14_code (3 : Nat) (Option.some Jvm.ClassFile.FieldType.int)) ∈ lw_all := lw_g (lw_at lw_m6 67 rfl) rfl
theorem q1366 : (Jvm.Cond.methodLink "PrinterClaims" (161 : Nat) ({ cls := "java/util/ArrayDeque", name := "clear", desc := "()V" } : Jvm.MethodName)) ∈ lw_all := lw_g (lw_at lw_m6 68 rfl) rfl
theorem q1396 : (Jvm.Cond.instanceMethod ({ cls := "PrinterClaims", name := "total", desc := "(I)I" } : Jvm.MethodName)) ∈ lw_all := lw_g (lw_at lw_m6 98 rfl) rfl
theorem q1397 : (Jvm.Cond.selects "PrinterClaims" ({ cls := "PrinterClaims", name := "total", desc := "(I)I" } : Jvm.MethodName) ({ cls := "PrinterClaims", name := "total", desc := "(I)I" } : Jvm.MethodName)) ∈ lw_all := lw_g (lw_at lw_m6 99 rfl) rfl
theorem q1398 : (Jvm.Cond.code ({ cls := "PrinterClaims", name := "total", desc := "(I)I" } : Jvm.MethodName) prog_1_method_20_code (2 : Nat) (Option.some Jvm.ClassFile.FieldType.int)) ∈ lw_all := lw_g (lw_at lw_m6 100 rfl) rfl
theorem q1399 : (Jvm.Cond.methodLink "PrinterClaims" (106 : Nat) ({ cls := "PrinterClaims", name := "requireKind", desc := "(I)V" } : Jvm.MethodName)) ∈ lw_all := lw_g (lw_at lw_m6 101 rfl) rfl
theorem q1400 : (Jvm.Cond.privateMethod ({ cls := "PrinterClaims", name := "requireKind", desc := "(I)V" } : Jvm.MethodName)) ∈ lw_tbl := lw_at lw_m6 102 rfl
theorem q1401 : (Jvm.Cond.instanceMethod ({ cls := "PrinterClaims", name := "requireKind", desc := "(I)V" } : Jvm.MethodName)) ∈ lw_all := lw_g (lw_at lw_m6 103 rfl) rfl
theorem q1402 : (Jvm.Cond.code ({ cls := "PrinterClaims", name := "requireKind", desc := "(I)V" } : Jvm.MethodName) prog_1_method_10_code (2 : Nat) (Option.none : Option Jvm.ClassFile.FieldType)) ∈ lw_all := lw_g (lw_at lw_m6 104 rfl) rfl
theorem q1403 : (Jvm.Cond.methodLink "PrinterClaims" (103 : Nat) ({ cls := "PrinterClaims$State", name := "hasKind", desc := "(I)Z" } : Jvm.MethodName)) ∈ lw_all := lw_g (lw_at lw_m6 105 rfl) rfl
theorem q1408 : (Jvm.Cond.classLink "PrinterClaims" (96 : Nat) "java/lang/IndexOutOfBoundsException") ∈ lw_all := lw_g (lw_at lw_m6 110 rfl) rfl
theorem q1417 : (Jvm.Cond.methodLink "PrinterClaims" (98 : Nat) ({ cls := "java/lang/IndexOutOfBoundsException", name := "<init>", desc := "()V" } : Jvm.MethodName)) ∈ lw_all := lw_g (lw_at lw_m6 119 rfl) rfl
theorem q1427 : (Jvm.Cond.instanceMethod ({ cls := "PrinterClaims", name := "available", desc := "(I)I" } : Jvm.MethodName)) ∈ lw_all := lw_g (lw_at lw_m6 129 rfl) rfl
theorem q1428 : (Jvm.Cond.selects "PrinterClaims" ({ cls := "PrinterClaims", name := "available", desc := "(I)I" } : Jvm.MethodName) ({ cls := "PrinterClaims", name := "available", desc := "(I)I" } : Jvm.MethodName)) ∈ lw_all := lw_g (lw_at lw_m6 130 rfl) rfl
theorem q1429 : (Jvm.Cond.code ({ cls := "PrinterClaims", name := "available", desc := "(I)I" } : Jvm.MethodName) prog_1_method_21_code (2 : Nat) (Option.some Jvm.ClassFile.FieldType.int)) ∈ lw_all := lw_g (lw_at lw_m6 131 rfl) rfl
theorem q1434 : (Jvm.Cond.instanceMethod ({ cls := "PrinterClaims", name := "claimedInAll", desc := "(I)I" } : Jvm.MethodName)) ∈ lw_all := lw_g (lw_at lw_m6 136 rfl) rfl
theorem q1435 : (Jvm.Cond.selects "PrinterClaims" ({ cls := "PrinterClaims", name := "claimedInAll", desc := "(I)I" } : Jvm.MethodName) ({ cls := "PrinterClaims", name := "claimedInAll", desc := "(I)I" } : Jvm.MethodName)) ∈ lw_all := lw_g (lw_at lw_m6 137 rfl) rfl
theorem q1436 : (Jvm.Cond.code ({ cls := "PrinterClaims", name := "claimedInAll", desc := "(I)I" } : Jvm.MethodName) prog_1_method_22_code (2 : Nat) (Option.some Jvm.ClassFile.FieldType.int)) ∈ lw_all := lw_g (lw_at lw_m6 138 rfl) rfl
theorem q1437 : (Jvm.Cond.methodLink "PrinterClaims" (178 : Nat) ({ cls := "PrinterClaims$State", name := "claimed", desc := "(I)I" } : Jvm.MethodName)) ∈ lw_all := lw_g (lw_at lw_m6 139 rfl) rfl
theorem q1445 : (Jvm.Cond.instanceMethod ({ cls := "PrinterClaims", name := "claim", desc := "(II)I" } : Jvm.MethodName)) ∈ lw_all := lw_g (lw_at lw_m6 147 rfl) rfl
theorem q1446 : (Jvm.Cond.selects "PrinterClaims" ({ cls := "PrinterClaims", name := "claim", desc := "(II)I" } : Jvm.MethodName) ({ cls := "PrinterClaims", name := "claim", desc := "(II)I" } : Jvm.MethodName)) ∈ lw_all := lw_g (lw_at lw_m6 148 rfl) rfl
theorem q1447 : (Jvm.Cond.code ({ cls := "PrinterClaims", name := "claim", desc := "(II)I" } : Jvm.MethodName) prog_1_method_26_code (3 : Nat) (Option.some Jvm.ClassFile.FieldType.int)) ∈ lw_all := lw_g (lw_at lw_m6 149 rfl) rfl
theorem q1448 : (Jvm.Cond.methodLink "PrinterClaims" (188 : Nat) ({ cls := "PrinterClaims", name := "require", desc := "(II)LPrinterClaims$Office;" } : Jvm.MethodName)) ∈ lw_all := lw_g (lw_at lw_m6 150 rfl) rfl
theorem q1449 : (Jvm.Cond.privateMethod ({ cls := "PrinterClaims", name := "require", desc := "(II)LPrinterClaims$Office;" } : Jvm.MethodName)) ∈ lw_tbl := lw_at lw_m6 151 rfl
theorem q1450 : (Jvm.Cond.instanceMethod ({ cls := "PrinterClaims", name := "require", desc := "(II)LPrinterClaims$Office;" } : Jvm.MethodName)) ∈ lw_all := lw_g (lw_at lw_m6 152 rfl) rfl
theorem q1451 : (Jvm.Cond.code ({ cls := "PrinterClaims", name := "require", desc := "(II)LPrinterClaims$Office;" } : Jvm.MethodName) prog_1_method_11_code (3 : Nat) (Option.some (Jvm.ClassFile.FieldType.object "PrinterClaims$Office"))) ∈ lw_all := lw_g (lw_at lw_m6 153 rfl) rfl
theorem q1452 : (Jvm.Cond.methodLink "PrinterClaims" (110 : Nat) ({ cls := "PrinterClaims", name := "requireOffice", desc := "(I)LPrinterClaims$Office;" } : Jvm.MethodName)) ∈ lw_all := lw_g (lw_at lw_m6 154 rfl) rfl
theorem q1453 : (Jvm.Cond.privateMethod ({ cls := "PrinterClaims", name := "requireOffice", desc := "(I)LPrinterClaims$Office;" } : Jvm.MethodName)) ∈ lw_tbl := lw_at lw_m6 155 rfl
theorem q1454 : (Jvm.Cond.instanceMethod ({ cls := "PrinterClaims", name := "requireOffice", desc := "(I)LPrinterClaims$Office;" } : Jvm.MethodName)) ∈ lw_all := lw_g (lw_at lw_m6 156 rfl) rfl
theorem q1455 : (Jvm.Cond.code ({ cls := "PrinterClaims", name := "requireOffice", desc := "(I)LPrinterClaims$Office;" } : Jvm.MethodName) prog_1_method_9_code (2 : Nat) (Option.some (Jvm.ClassFile.FieldType.object "PrinterClaims$Office"))) ∈ lw_all := lw_g (lw_at lw_m6 157 rfl) rfl
theorem q1456 : (Jvm.Cond.methodLink "PrinterClaims" (92 : Nat) ({ cls := "PrinterClaims$State", name := "hasOffice", desc := "(I)Z" } : Jvm.MethodName)) ∈ lw_all := lw_g (lw_at lw_m6 158 rfl) rfl
theorem q1464 : (Jvm.Cond.instanceMethod ({ cls := "PrinterClaims", name := "allocated", desc := "(II)I" } : Jvm.MethodName)) ∈ lw_all := lw_g (lw_at lw_m6 166 rfl) rfl
theorem q1465 : (Jvm.Cond.selects "PrinterClaims" ({ cls := "PrinterClaims", name := "allocated", desc := "(II)I" } : Jvm.MethodName) ({ cls := "PrinterClaims", name := "allocated", desc := "(II)I" } : Jvm.MethodName)) ∈ lw_all := lw_g (lw_at lw_m6 167 rfl) rfl
theorem q1466 : (Jvm.Cond.code ({ cls := "PrinterClaims", name := "allocated", desc := "(II)I" } : Jvm.MethodName) prog_1_method_27_code (3 : Nat) (Option.some Jvm.ClassFile.FieldType.int)) ∈ lw_all := lw_g (lw_at lw_m6 168 rfl) rfl
theorem q1471 : (Jvm.Cond.instanceMethod ({ cls := "PrinterClaims", name := "need", desc := "(II)I" } : Jvm.MethodName)) ∈ lw_all := lw_g (lw_at lw_m6 173 rfl) rfl
theorem q1472 : (Jvm.Cond.selects "PrinterClaims" ({ cls := "PrinterClaims", name := "need", desc := "(II)I" } : Jvm.MethodName) ({ cls := "PrinterClaims", name := "need", desc := "(II)I" } : Jvm.MethodName)) ∈ lw_all := lw_g (lw_at lw_m6 174 rfl) rfl
theorem q1473 : (Jvm.Cond.code ({ cls := "PrinterClaims", name := "need", desc := "(II)I" } : Jvm.MethodName) prog_1_method_28_code (3 : Nat) (Option.some Jvm.ClassFile.FieldType.int)) ∈ lw_all := lw_g (lw_at lw_m6 175 rfl) rfl
theorem q1474 : (Jvm.Cond.methodLink "PrinterClaims" (198 : Nat) ({ cls := "PrinterClaims$Office", name := "need", desc := "(I)I" } : Jvm.MethodName)) ∈ lw_all := lw_g (lw_at lw_m6 176 rfl) rfl
theorem q1479 : (Jvm.Cond.instanceMethod ({ cls := "PrinterClaims", name := "canFinish", desc := "(I)Z" } : Jvm.MethodName)) ∈ lw_all := lw_g (lw_at lw_m6 181 rfl) rfl
theorem q1480 : (Jvm.Cond.selects "PrinterClaims" ({ cls := "PrinterClaims", name := "canFinish", desc := "(I)Z" } : Jvm.MethodName) ({ cls := "PrinterClaims", name := "canFinish", desc := "(I)Z" } : Jvm.MethodName)) ∈ lw_all := lw_g (lw_at lw_m6 182 rfl) rfl
theorem q1481 : (Jvm.Cond.code ({ cls := "PrinterClaims", name := "canFinish", desc := "(I)Z" } : Jvm.MethodName) prog_1_method_29_code (2 : Nat) (Option.some Jvm.ClassFile.FieldType.boolean)) ∈ lw_all := lw_g (lw_at lw_m6 183 rfl) rfl
theorem q1486 : (Jvm.Cond.instanceMethod ({ cls := "PrinterClaims", name := "waitsForKind", desc := "(I)I" } : Jvm.MethodName)) ∈ lw_all := lw_g (lw_at lw_m6 188 rfl) rfl
theorem q1487 : (Jvm.Cond.selects "PrinterClaims" ({ cls := "PrinterClaims", name := "waitsForKind", desc := "(I)I" } : Jvm.MethodName) ({ cls := "PrinterClaims", name := "waitsForKind", desc := "(I)I" } : Jvm.MethodName)) ∈ lw_all := lw_g (lw_at lw_m6 189 rfl) rfl
theorem q1488 : (Jvm.Cond.code ({ cls := "PrinterClaims", name := "waitsForKind", desc := "(I)I" } : Jvm.MethodName) prog_1_method_35_code (4 : Nat) (Option.some Jvm.ClassFile.FieldType.int)) ∈ lw_all := lw_g (lw_at lw_m6 190 rfl) rfl
theorem q1489 : (Jvm.Cond.methodLink "PrinterClaims" (239 : Nat) ({ cls := "PrinterClaims$State", name := "wishOf", desc := "(I)LPrinterClaims$Wish;" } : Jvm.MethodName)) ∈ lw_all := lw_g (lw_at lw_m6 191 rfl) rfl
theorem q1494 : (Jvm.Cond.methodLink "PrinterClaims" (243 : Nat) ({ cls := "PrinterClaims$Wish", name := "kind", desc := "()I" } : Jvm.MethodName)) ∈ lw_all := lw_g (lw_at lw_m6 196 rfl) rfl
theorem q1502 : (Jvm.Cond.instanceMethod ({ cls := "PrinterClaims", name := "waitsForCount", desc := "(I)I" } : Jvm.MethodName)) ∈ lw_all := lw_g (lw_at lw_m6 204 rfl) rfl
theorem q1503 : (Jvm.Cond.selects "PrinterClaims" ({ cls := "PrinterClaims", name := "waitsForCount", desc := "(I)I" } : Jvm.MethodName) ({ cls := "PrinterClaims", name := "waitsForCount", desc := "(I)I" } : Jvm.MethodName)) ∈ lw_all := lw_g (lw_at lw_m6 205 rfl) rfl
theorem q1504 : (Jvm.Cond.code ({ cls := "PrinterClaims", name := "waitsForCount", desc := "(I)I" } : Jvm.MethodName) prog_1_method_36_code (4 : Nat) (Option.some Jvm.ClassFile.FieldType.int)) ∈ lw_all := lw_g (lw_at lw_m6 206 rfl) rfl
theorem q1505 : (Jvm.Cond.methodLink "PrinterClaims" (246 : Nat) ({ cls := "PrinterClaims$Wish", name := "count", desc := "()I" } : Jvm.MethodName)) ∈ lw_all := lw_g (lw_at lw_m6 207 rfl) rfl
theorem q1513 : (Jvm.Cond.instanceMethod ({ cls := "PrinterClaims", name := "waitedPrinters", desc := "(I)I" } : Jvm.MethodName)) ∈ lw_all := lw_g (lw_at lw_m6 215 rfl) rfl
theorem q1514 : (Jvm.Cond.selects "PrinterClaims" ({ cls := "PrinterClaims", name := "waitedPrinters", desc := "(I)I" } : Jvm.MethodName) ({ cls := "PrinterClaims", name := "waitedPrinters", desc := "(I)I" } : Jvm.MethodName)) ∈ lw_all := lw_g (lw_at lw_m6 216 rfl) rfl
theorem q1515 : (Jvm.Cond.code ({ cls := "PrinterClaims", name := "waitedPrinters", desc := "(I)I" } : Jvm.MethodName) prog_1_method_37_code (5 : Nat) (Option.some Jvm.ClassFile.FieldType.int)) ∈ lw_all := lw_g (lw_at lw_m6 217 rfl) rfl
theorem q1520 : (Jvm.Cond.instanceMethod ({ cls := "PrinterClaims", name := "waitReason", desc := "(I)I" } : Jvm.MethodName)) ∈ lw_all := lw_g (lw_at lw_m6 222 rfl) rfl
theorem q1521 : (Jvm.Cond.selects "PrinterClaims" ({ cls := "PrinterClaims", name := "waitReason", desc := "(I)I" } : Jvm.MethodName) ({ cls := "PrinterClaims", name := "waitReason", desc := "(I)I" } : Jvm.MethodName)) ∈ lw_all := lw_g (lw_at lw_m6 223 rfl) rfl
theorem q1522 : (Jvm.Cond.code ({ cls := "PrinterClaims", name := "waitReason", desc := "(I)I" } : Jvm.MethodName) prog_1_method_38_code (4 : Nat) (Option.some Jvm.ClassFile.FieldType.int)) ∈ lw_all := lw_g (lw_at lw_m6 224 rfl) rfl
theorem q1527 : (Jvm.Cond.instanceMethod ({ cls := "PrinterClaims", name := "sequenceOffice", desc := "(I)I" } : Jvm.MethodName)) ∈ lw_all := lw_g (lw_at lw_m6 229 rfl) rfl
theorem q1528 : (Jvm.Cond.selects "PrinterClaims" ({ cls := "PrinterClaims", name := "sequenceOffice", desc := "(I)I" } : Jvm.MethodName) ({ cls := "PrinterClaims", name := "sequenceOffice", desc := "(I)I" } : Jvm.MethodName)) ∈ lw_all := lw_g (lw_at lw_m6 230 rfl) rfl
theorem q1529 : (Jvm.Cond.code ({ cls := "PrinterClaims", name := "sequenceOffice", desc := "(I)I" } : Jvm.MethodName) prog_1_method_39_code (2 : Nat) (Option.some Jvm.ClassFile.FieldType.int)) ∈ lw_all := lw_g (lw_at lw_m6 231 rfl) rfl
theorem q1530 : (Jvm.Cond.methodLink "PrinterClaims" (249 : Nat) ({ cls := "PrinterClaims", name := "requirePlace", desc := "(I)V" } : Jvm.MethodName)) ∈ lw_all := lw_g (lw_at lw_m6 232 rfl) rfl
theorem q1531 : (Jvm.Cond.privateMethod ({ cls := "PrinterClaims", name := "requirePlace", desc := "(I)V" } : Jvm.MethodName)) ∈ lw_tbl := lw_at lw_m6 233 rfl
theorem q1532 : (Jvm.Cond.instanceMethod ({ cls := "PrinterClaims", name := "requirePlace", desc := "(I)V" } : Jvm.MethodName)) ∈ lw_all := lw_g (lw_at lw_m6 234 rfl) rfl
theorem q1533 : (Jvm.Cond.code ({ cls := "PrinterClaims", name := "requirePlace", desc := "(I)V" } : Jvm.MethodName) prog_1_method_12_code (2 : Nat) (Option.none : Option Jvm.ClassFile.FieldType)) ∈ lw_all := lw_g (lw_at lw_m6 235 rfl) rfl
theorem q1534 : (Jvm.Cond.classLink "PrinterClaims" (252 : Nat) "PrinterClaims$Sequence") ∈ lw_all := lw_g (lw_at lw_m6 236 rfl) rfl
theorem q1535 : (Jvm.Cond.methodLink "PrinterClaims" (254 : Nat) ({ cls := "PrinterClaims$Sequence", name := "<init>", desc := "(LPrinterClaims$State;I)V" } : Jvm.MethodName)) ∈ lw_all := lw_g (lw_at lw_m6 237 rfl) rfl
theorem q1540 : (Jvm.Cond.instanceMethod ({ cls := "PrinterClaims", name := "sequenceAvailable", desc := "(II)I" } : Jvm.MethodName)) ∈ lw_all := lw_g (lw_at lw_m7 2 rfl) rfl
theorem q1541 : (Jvm.Cond.selects "PrinterClaims" ({ cls := "PrinterClaims", name := "sequenceAvailable", desc := "(II)I" } : Jvm.MethodName) ({ cls := "PrinterClaims", name := "sequenceAvailable", desc := "(II)I" } : Jvm.MethodName)) ∈ lw_all := lw_g (lw_at lw_m7 3 rfl) rfl
theorem q1542 : (Jvm.Cond.code ({ cls := "PrinterClaims", name := "sequenceAvailable", desc := "(II)I" } : Jvm.MethodName) prog_1_method_40_code (3 : Nat) (Option.some Jvm.ClassFile.FieldType.int)) ∈ lw_all := lw_g (lw_at lw_m7 4 rfl) rfl
theorem q1547 : (Jvm.Cond.instanceMethod ({ cls := "PrinterClaims", name := "earliestPlace", desc := "(I)I" } : Jvm.MethodName)) ∈ lw_all := lw_g (lw_at lw_m7 9 rfl) rfl
theorem q1548 : (Jvm.Cond.selects "PrinterClaims" ({ cls := "PrinterClaims", name := "earliestPlace", desc := "(I)I" } : Jvm.MethodName) ({ cls := "PrinterClaims", name := "earliestPlace", desc := "(I)I" } : Jvm.MethodName)) ∈ lw_all := lw_g (lw_at lw_m7 10 rfl) rfl
theorem q1549 : (Jvm.Cond.code ({ cls := "PrinterClaims", name := "earliestPlace", desc := "(I)I" } : Jvm.MethodName) prog_1_method_42_code (3 : Nat) (Option.some Jvm.ClassFile.FieldType.int)) ∈ lw_all := lw_g (lw_at lw_m7 11 rfl) rfl
theorem q1550 : (Jvm.Cond.methodLink "PrinterClaims" (270 : Nat) ({ cls := "PrinterClaims$Counting", name := "earliest", desc := "(I)I" } : Jvm.MethodName)) ∈ lw_all := lw_g (lw_at lw_m7 12 rfl) rfl
theorem q1561 : (Jvm.Cond.instanceMethod ({ cls := "PrinterClaims", name := "requestObstacle", desc := "(III)I" } : Jvm.MethodName)) ∈ lw_all := lw_g (lw_at lw_m7 23 rfl) rfl
theorem q1562 : (Jvm.Cond.selects "PrinterClaims" ({ cls := "PrinterClaims", name := "requestObstacle", desc := "(III)I" } : Jvm.MethodName) ({ cls := "PrinterClaims", name := "requestObstacle", desc := "(III)I" } : Jvm.MethodName)) ∈ lw_all := lw_g (lw_at lw_m7 24 rfl) rfl
theorem q1563 : (Jvm.Cond.code ({ cls := "PrinterClaims", name := "requestObstacle", desc := "(III)I" } : Jvm.MethodName) prog_1_method_43_code (5 : Nat) (Option.some Jvm.ClassFile.FieldType.int)) ∈ lw_all := lw_g (lw_at lw_m7 25 rfl) rfl
theorem q1564 : (Jvm.Cond.methodLink "PrinterClaims" (273 : Nat) ({ cls := "PrinterClaims$State", name := "obstacle", desc := "(III)I" } : Jvm.MethodName)) ∈ lw_all := lw_g (lw_at lw_m7 26 rfl) rfl
theorem q1587 : (Jvm.Cond.instanceMethod ({ cls := "PrinterClaims", name := "greatestGrant", desc := "(II)I" } : Jvm.MethodName)) ∈ lw_all := lw_g (lw_at lw_m7 49 rfl) rfl
theorem q1588 : (Jvm.Cond.selects "PrinterClaims" ({ cls := "PrinterClaims", name := "greatestGrant", desc := "(II)I" } : Jvm.MethodName) ({ cls := "PrinterClaims", name := "greatestGrant", desc := "(II)I" } : Jvm.MethodName)) ∈ lw_all := lw_g (lw_at lw_m7 50 rfl) rfl
theorem q1589 : (Jvm.Cond.code ({ cls := "PrinterClaims", name := "greatestGrant", desc := "(II)I" } : Jvm.MethodName) prog_1_method_44_code (4 : Nat) (Option.some Jvm.ClassFile.FieldType.int)) ∈ lw_all := lw_g (lw_at lw_m7 51 rfl) rfl
theorem q1590 : (Jvm.Cond.methodLink "PrinterClaims" (277 : Nat) ({ cls := "PrinterClaims$State", name := "greatestGrant", desc := "(II)I" } : Jvm.MethodName)) ∈ lw_all := lw_g (lw_at lw_m7 52 rfl) rfl
theorem q1598 : (Jvm.Cond.instanceMethod ({ cls := "PrinterClaims", name := "spare", desc := "(I)I" } : Jvm.MethodName)) ∈ lw_all := lw_g (lw_at lw_m7 60 rfl) rfl
theorem q1599 : (Jvm.Cond.selects "PrinterClaims" ({ cls := "PrinterClaims", name := "spare", desc := "(I)I" } : Jvm.MethodName) ({ cls := "PrinterClaims", name := "spare", desc := "(I)I" } : Jvm.MethodName)) ∈ lw_all := lw_g (lw_at lw_m7 61 rfl) rfl
theorem q1600 : (Jvm.Cond.code ({ cls := "PrinterClaims", name := "spare", desc := "(I)I" } : Jvm.MethodName) prog_1_method_45_code (2 : Nat) (Option.some Jvm.ClassFile.FieldType.int)) ∈ lw_all := lw_g (lw_at lw_m7 62 rfl) rfl
theorem q1601 : (Jvm.Cond.methodLink "PrinterClaims" (280 : Nat) ({ cls := "PrinterClaims$State", name := "spare", desc := "(I)I" } : Jvm.MethodName)) ∈ lw_all := lw_g (lw_at lw_m7 63 rfl) rfl
theorem q1618 : (Jvm.Cond.instanceMethod ({ cls := "PrinterClaims", name := "wouldWake", desc := "(I)I" } : Jvm.MethodName)) ∈ lw_all := lw_g (lw_at lw_m7 80 rfl) rfl
theorem q1619 : (Jvm.Cond.selects "PrinterClaims" ({ cls := "PrinterClaims", name := "wouldWake", desc := "(I)I" } : Jvm.MethodName) ({ cls := "PrinterClaims", name := "wouldWake", desc := "(I)I" } : Jvm.MethodName)) ∈ lw_all := lw_g (lw_at lw_m7 81 rfl) rfl
theorem q1620 : (Jvm.Cond.code ({ cls := "PrinterClaims", name := "wouldWake", desc := "(I)I" } : Jvm.MethodName) prog_1_method_46_code (3 : Nat) (Option.some Jvm.ClassFile.FieldType.int)) ∈ lw_all := lw_g (lw_at lw_m7 82 rfl) rfl
theorem q1621 : (Jvm.Cond.methodLink "PrinterClaims" (283 : Nat) ({ cls := "PrinterClaims$State", name := "finish", desc := "(I)I" } : Jvm.MethodName)) ∈ lw_all := lw_g (lw_at lw_m7 83 rfl) rfl
theorem q1666 : (Jvm.Cond.instanceMethod ({ cls := "PrinterClaims", name := "request", desc := "(III)I" } : Jvm.MethodName)) ∈ lw_all := lw_g (lw_at lw_m7 128 rfl) rfl
theorem q1667 : (Jvm.Cond.selects "PrinterClaims" ({ cls := "PrinterClaims", name := "request", desc := "(III)I" } : Jvm.MethodName) ({ cls := "PrinterClaims", name := "request", desc := "(III)I" } : Jvm.MethodName)) ∈ lw_all := lw_g (lw_at lw_m7 129 rfl) rfl
theorem q1668 : (Jvm.Cond.code ({ cls := "PrinterClaims", name := "request", desc := "(III)I" } : Jvm.MethodName) prog_1_method_53_code (4 : Nat) (Option.some Jvm.ClassFile.FieldType.int)) ∈ lw_all := lw_g (lw_at lw_m7 130 rfl) rfl
theorem q1669 : (Jvm.Cond.methodLink "PrinterClaims" (309 : Nat) ({ cls := "PrinterClaims$Order", name := "requesting", desc := "(III)LPrinterClaims$Order;" } : Jvm.MethodName)) ∈ lw_all := lw_g (lw_at lw_m7 131 rfl) rfl
theorem q1706 : (Jvm.Cond.methodLink "PrinterClaims" (313 : Nat) ({ cls := "PrinterClaims", name := "change", desc := "(LPrinterClaims$Order;)I" } : Jvm.MethodName)) ∈ lw_all := lw_g (lw_at lw_m7 168 rfl) rfl
theorem q1707 : (Jvm.Cond.privateMethod ({ cls := "PrinterClaims", name := "change", desc := "(LPrinterClaims$Order;)I" } : Jvm.MethodName)) ∈ lw_tbl := lw_at lw_m7 169 rfl
theorem q1708 : (Jvm.Cond.instanceMethod ({ cls := "PrinterClaims", name := "change", desc := "(LPrinterClaims$Order;)I" } : Jvm.MethodName)) ∈ lw_all := lw_g (lw_at lw_m7 170 rfl) rfl
theorem q1709 : (Jvm.Cond.codeWith ({ cls := "PrinterClaims", name := "change", desc := "(LPrinterClaims$Order;)I" } : Jvm.MethodName) prog_1_method_8_code (4 : Nat) (Option.some Jvm.ClassFile.FieldType.int) [((8 : Nat), (25 : Nat), (26 : Nat), (1 : Nat))]) ∈ lw_all := lw_g (lw_at lw_m7 171 rfl) rfl
theorem q1710 : (Jvm.Cond.classLink "PrinterClaims" (1 : Nat) "PrinterClaims$Refusal") ∈ lw_all := lw_g (lw_at lw_m7 172 rfl) rfl
theorem q1711 : (Jvm.Cond.interfaceEntry "PrinterClaims" (72 : Nat)) ∈ lw_tbl := lw_at lw_m7 173 rfl
theorem q1712 : (Jvm.Cond.methodLink "PrinterClaims" (72 : Nat) ({ cls := "PrinterClaims$Order", name := "run", desc := "(LPrinterClaims$State;)I" } : Jvm.MethodName)) ∈ lw_all := lw_g (lw_at lw_m7 174 rfl) rfl
theorem q1730 : (Jvm.Cond.static ({ cls := "PrinterClaims", name := "need", desc := "(ZLPrinterClaims$Reason;)V" } : Jvm.MethodName)) ∈ lw_all := lw_g (lw_at lw_m7 192 rfl) rfl
theorem q1731 : (Jvm.Cond.code ({ cls := "PrinterClaims", name := "need", desc := "(ZLPrinterClaims$Reason;)V" } : Jvm.MethodName) prog_1_method_4_code (2 : Nat) (Option.none : Option Jvm.ClassFile.FieldType)) ∈ lw_all := lw_g (lw_at lw_m7 193 rfl) rfl
theorem q1740 : (Jvm.Cond.methodLink "PrinterClaims" (3 : Nat) ({ cls := "PrinterClaims$Refusal", name := "<init>", desc := "(LPrinterClaims$Reason;)V" } : Jvm.MethodName)) ∈ lw_all := lw_g (lw_at lw_m7 202 rfl) rfl
theorem q1745 : (Jvm.Cond.fieldLinkNest "PrinterClaims" (82 : Nat) "PrinterClaims$Refusal" "reason" "LPrinterClaims$Reason;" "PrinterClaims") ∈ lw_tbl := lw_at lw_m7 207 rfl
theorem q1874 : (Jvm.Cond.methodLink "PrinterClaims" (78 : Nat) ({ cls := "PrinterClaims", name := "record", desc := "(LPrinterClaims$State;)V" } : Jvm.MethodName)) ∈ lw_all := lw_g (lw_at lw_m8 96 rfl) rfl
theorem q1875 : (Jvm.Cond.privateMethod ({ cls := "PrinterClaims", name := "record", desc := "(LPrinterClaims$State;)V" } : Jvm.MethodName)) ∈ lw_tbl := lw_at lw_m8 97 rfl
theorem q1876 : (Jvm.Cond.instanceMethod ({ cls := "PrinterClaims", name := "record", desc := "(LPrinterClaims$State;)V" } : Jvm.MethodName)) ∈ lw_all := lw_g (lw_at lw_m8 98 rfl) rfl
theorem q1877 : (Jvm.Cond.code ({ cls := "PrinterClaims", name := "record", desc := "(LPrinterClaims$State;)V" } : Jvm.MethodName) prog_1_method_7_code (2 : Nat) (Option.none : Option Jvm.ClassFile.FieldType)) ∈ lw_all := lw_g (lw_at lw_m8 99 rfl) rfl
theorem q1878 : (Jvm.Cond.methodLink "PrinterClaims" (60 : Nat) ({ cls := "java/util/ArrayDeque", name := "removeFirst", desc := "()Ljava/lang/Object;" } : Jvm.MethodName)) ∈ lw_all := lw_g (lw_at lw_m8 100 rfl) rfl
theorem q1892 : (Jvm.Cond.methodLink "PrinterClaims" (64 : Nat) ({ cls := "java/util/ArrayDeque", name := "addLast", desc := "(Ljava/lang/Object;)V" } : Jvm.MethodName)) ∈ lw_all := lw_g (lw_at lw_m8 114 rfl) rfl
theorem q1924 : (Jvm.Cond.methodLink "PrinterClaims" (86 : Nat) ({ cls := "PrinterClaims$Reason", name := "thrown", desc := "()Ljava/lang/RuntimeException;" } : Jvm.MethodName)) ∈ lw_all := lw_g (lw_at lw_m8 146 rfl) rfl
theorem q1949 : (Jvm.Cond.instanceMethod ({ cls := "PrinterClaims", name := "release", desc := "(III)I" } : Jvm.MethodName)) ∈ lw_all := lw_g (lw_at lw_m8 171 rfl) rfl
theorem q1950 : (Jvm.Cond.selects "PrinterClaims" ({ cls := "PrinterClaims", name := "release", desc := "(III)I" } : Jvm.MethodName) ({ cls := "PrinterClaims", name := "release", desc := "(III)I" } : Jvm.MethodName)) ∈ lw_all := lw_g (lw_at lw_m8 172 rfl) rfl
theorem q1951 : (Jvm.Cond.code ({ cls := "PrinterClaims", name := "release", desc := "(III)I" } : Jvm.MethodName) prog_1_method_54_code (4 : Nat) (Option.some Jvm.ClassFile.FieldType.int)) ∈ lw_all := lw_g (lw_at lw_m8 173 rfl) rfl
theorem q1952 : (Jvm.Cond.methodLink "PrinterClaims" (317 : Nat) ({ cls := "PrinterClaims$Order", name := "releasing", desc := "(III)LPrinterClaims$Order;" } : Jvm.MethodName)) ∈ lw_all := lw_g (lw_at lw_m8 174 rfl) rfl
theorem q1980 : (Jvm.Cond.instanceMethod ({ cls := "PrinterClaims", name := "finish", desc := "(I)I" } : Jvm.MethodName)) ∈ lw_all := lw_g (lw_at lw_m8 202 rfl) rfl
theorem q1981 : (Jvm.Cond.selects "PrinterClaims" ({ cls := "PrinterClaims", name := "finish", desc := "(I)I" } : Jvm.MethodName) ({ cls := "PrinterClaims", name := "finish", desc := "(I)I" } : Jvm.MethodName)) ∈ lw_all := lw_g (lw_at lw_m8 203 rfl) rfl
theorem q1982 : (Jvm.Cond.code ({ cls := "PrinterClaims", name := "finish", desc := "(I)I" } : Jvm.MethodName) prog_1_method_55_code (2 : Nat) (Option.some Jvm.ClassFile.FieldType.int)) ∈ lw_all := lw_g (lw_at lw_m8 204 rfl) rfl
theorem q1983 : (Jvm.Cond.methodLink "PrinterClaims" (320 : Nat) ({ cls := "PrinterClaims$Order", name := "finishing", desc := "(I)LPrinterClaims$Order;" } : Jvm.MethodName)) ∈ lw_all := lw_g (lw_at lw_m8 205 rfl) rfl
theorem q2000 : (Jvm.Cond.instanceMethod ({ cls := "PrinterClaims", name := "withdraw", desc := "(I)I" } : Jvm.MethodName)) ∈ lw_all := lw_g (lw_at lw_m8 222 rfl) rfl
theorem q2001 : (Jvm.Cond.selects "PrinterClaims" ({ cls := "PrinterClaims", name := "withdraw", desc := "(I)I" } : Jvm.MethodName) ({ cls := "PrinterClaims", name := "withdraw", desc := "(I)I" } : Jvm.MethodName)) ∈ lw_all := lw_g (lw_at lw_m8 223 rfl) rfl
theorem q2002 : (Jvm.Cond.code ({ cls := "PrinterClaims", name := "withdraw", desc := "(I)I" } : Jvm.MethodName) prog_1_method_56_code (2 : Nat) (Option.some Jvm.ClassFile.FieldType.int)) ∈ lw_all := lw_g (lw_at lw_m8 224 rfl) rfl
theorem q2003 : (Jvm.Cond.methodLink "PrinterClaims" (324 : Nat) ({ cls := "PrinterClaims$Order", name := "withdrawing", desc := "(I)LPrinterClaims$Order;" } : Jvm.MethodName)) ∈ lw_all := lw_g (lw_at lw_m8 225 rfl) rfl
theorem q2020 : (Jvm.Cond.instanceMethod ({ cls := "PrinterClaims", name := "changeClaim", desc := "(III)I" } : Jvm.MethodName)) ∈ lw_all := lw_g (lw_at lw_m9 2 rfl) rfl
theorem q2021 : (Jvm.Cond.selects "PrinterClaims" ({ cls := "PrinterClaims", name := "changeClaim", desc := "(III)I" } : Jvm.MethodName) ({ cls := "PrinterClaims", name := "changeClaim", desc := "(III)I" } : Jvm.MethodName)) ∈ lw_all := lw_g (lw_at lw_m9 3 rfl) rfl
theorem q2022 : (Jvm.Cond.code ({ cls := "PrinterClaims", name := "changeClaim", desc := "(III)I" } : Jvm.MethodName) prog_1_method_57_code (4 : Nat) (Option.some Jvm.ClassFile.FieldType.int)) ∈ lw_all := lw_g (lw_at lw_m9 4 rfl) rfl
theorem q2023 : (Jvm.Cond.methodLink "PrinterClaims" (327 : Nat) ({ cls := "PrinterClaims$Order", name := "claiming", desc := "(III)LPrinterClaims$Order;" } : Jvm.MethodName)) ∈ lw_all := lw_g (lw_at lw_m9 5 rfl) rfl
theorem q2051 : (Jvm.Cond.instanceMethod ({ cls := "PrinterClaims", name := "addPrinters", desc := "(II)I" } : Jvm.MethodName)) ∈ lw_all := lw_g (lw_at lw_m9 33 rfl) rfl
theorem q2052 : (Jvm.Cond.selects "PrinterClaims" ({ cls := "PrinterClaims", name := "addPrinters", desc := "(II)I" } : Jvm.MethodName) ({ cls := "PrinterClaims", name := "addPrinters", desc := "(II)I" } : Jvm.MethodName)) ∈ lw_all := lw_g (lw_at lw_m9 34 rfl) rfl
theorem q2053 : (Jvm.Cond.code ({ cls := "PrinterClaims", name := "addPrinters", desc := "(II)I" } : Jvm.MethodName) prog_1_method_58_code (3 : Nat) (Option.some Jvm.ClassFile.FieldType.int)) ∈ lw_all := lw_g (lw_at lw_m9 35 rfl) rfl
theorem q2054 : (Jvm.Cond.methodLink "PrinterClaims" (330 : Nat) ({ cls := "PrinterClaims$Order", name := "adding", desc := "(II)LPrinterClaims$Order;" } : Jvm.MethodName)) ∈ lw_all := lw_g (lw_at lw_m9 36 rfl) rfl
theorem q2083 : (Jvm.Cond.instanceMethod ({ cls := "PrinterClaims", name := "retirePrinters", desc := "(II)I" } : Jvm.MethodName)) ∈ lw_all := lw_g (lw_at lw_m9 65 rfl) rfl
theorem q2084 : (Jvm.Cond.selects "PrinterClaims" ({ cls := "PrinterClaims", name := "retirePrinters", desc := "(II)I" } : Jvm.MethodName) ({ cls := "PrinterClaims", name := "retirePrinters", desc := "(II)I" } : Jvm.MethodName)) ∈ lw_all := lw_g (lw_at lw_m9 66 rfl) rfl
theorem q2085 : (Jvm.Cond.code ({ cls := "PrinterClaims", name := "retirePrinters", desc := "(II)I" } : Jvm.MethodName) prog_1_method_59_code (3 : Nat) (Option.some Jvm.ClassFile.FieldType.int)) ∈ lw_all := lw_g (lw_at lw_m9 67 rfl) rfl
theorem q2086 : (Jvm.Cond.methodLink "PrinterClaims" (334 : Nat) ({ cls := "PrinterClaims$Order", name := "retiring", desc := "(II)LPrinterClaims$Order;" } : Jvm.MethodName)) ∈ lw_all := lw_g (lw_at lw_m9 68 rfl) rfl
theorem q2108 : (Jvm.Cond.instanceMethod ({ cls := "PrinterClaims", name := "runScript", desc := "(I)I" } : Jvm.MethodName)) ∈ lw_all := lw_g (lw_at lw_m9 90 rfl) rfl
theorem q2109 : (Jvm.Cond.selects "PrinterClaims" ({ cls := "PrinterClaims", name := "runScript", desc := "(I)I" } : Jvm.MethodName) ({ cls := "PrinterClaims", name := "runScript", desc := "(I)I" } : Jvm.MethodName)) ∈ lw_all := lw_g (lw_at lw_m9 91 rfl) rfl
theorem q2110 : (Jvm.Cond.codeWith ({ cls := "PrinterClaims", name := "runScript", desc := "(I)I" } : Jvm.MethodName) prog_1_method_61_code (5 : Nat) (Option.some Jvm.ClassFile.FieldType.int) [((15 : Nat), (31 : Nat), (34 : Nat), (348 : Nat)), ((15 : Nat), (31 : Nat), (34 : Nat), (350 : Nat)), ((15 : Nat), (31 : Nat), (34 : Nat), (352 : Nat)), ((66 : Nat), (71 : Nat), (72 : Nat), (337 : Nat))]) ∈ lw_all := lw_g (lw_at lw_m9 92 rfl) rfl
theorem q2111 : (Jvm.Cond.classLink "PrinterClaims" (348 : Nat) "PrinterClaims$SyntaxException") ∈ lw_all := lw_g (lw_at lw_m9 93 rfl) rfl
theorem q2112 : (Jvm.Cond.classLink "PrinterClaims" (350 : Nat) "PrinterClaims$RangeException") ∈ lw_all := lw_g (lw_at lw_m9 94 rfl) rfl
theorem q2113 : (Jvm.Cond.classLink "PrinterClaims" (352 : Nat) "PrinterClaims$LimitException") ∈ lw_all := lw_g (lw_at lw_m9 95 rfl) rfl
theorem q2114 : (Jvm.Cond.classLink "PrinterClaims" (337 : Nat) "PrinterClaims$Stop") ∈ lw_all := lw_g (lw_at lw_m9 96 rfl) rfl
theorem q2115 : (Jvm.Cond.classLink "PrinterClaims" (342 : Nat) "PrinterClaims$Script") ∈ lw_all := lw_g (lw_at lw_m9 97 rfl) rfl
theorem q2117 : (Jvm.Cond.methodLink "PrinterClaims" (344 : Nat) ({ cls := "PrinterClaims$Script", name := "<init>", desc := "([BI)V" } : Jvm.MethodName)) ∈ lw_all := lw_g (lw_at lw_m9 99 rfl) rfl
theorem q2134 : (Jvm.Cond.methodLink "PrinterClaims" (345 : Nat) ({ cls := "PrinterClaims$Script", name := "read", desc := "()Ljava/util/List;" } : Jvm.MethodName)) ∈ lw_all := lw_g (lw_at lw_m9 116 rfl) rfl
theorem q2252 : (Jvm.Cond.methodLink "PrinterClaims" (354 : Nat) ({ cls := "PrinterClaims", name := "runAll", desc := "(Ljava/util/List;)I" } : Jvm.MethodName)) ∈ lw_all := lw_g (lw_at lw_m9 234 rfl) rfl
theorem q2253 : (Jvm.Cond.privateMethod ({ cls := "PrinterClaims", name := "runAll", desc := "(Ljava/util/List;)I" } : Jvm.MethodName)) ∈ lw_tbl := lw_at lw_m9 235 rfl
theorem q2254 : (Jvm.Cond.instanceMethod ({ cls := "PrinterClaims", name := "runAll", desc := "(Ljava/util/List;)I" } : Jvm.MethodName)) ∈ lw_all := lw_g (lw_at lw_m9 236 rfl) rfl
theorem q2255 : (Jvm.Cond.codeWith ({ cls := "PrinterClaims", name := "runAll", desc := "(Ljava/util/List;)I" } : Jvm.MethodName) prog_1_method_60_code (6 : Nat) (Option.some Jvm.ClassFile.FieldType.int) [((29 : Nat), (42 : Nat), (45 : Nat), (1 : Nat))]) ∈ lw_all := lw_g (lw_at lw_m9 237 rfl) rfl
theorem q2256 : (Jvm.Cond.classLink "PrinterClaims" (73 : Nat) "PrinterClaims$Order") ∈ lw_all := lw_g (lw_at lw_m9 238 rfl) rfl
theorem q2265 : (Jvm.Cond.methodLink "PrinterClaims" (339 : Nat) ({ cls := "PrinterClaims$Stop", name := "<init>", desc := "(ILPrinterClaims$Refusal;)V" } : Jvm.MethodName)) ∈ lw_all := lw_g (lw_at lw_m10 7 rfl) rfl
theorem q2270 : (Jvm.Cond.fieldLinkNest "PrinterClaims" (362 : Nat) "PrinterClaims$Stop" "done" "I" "PrinterClaims") ∈ lw_tbl := lw_at lw_m10 12 rfl
theorem q2275 : (Jvm.Cond.methodLink "PrinterClaims" (358 : Nat) ({ cls := "PrinterClaims$Stop", name := "getCause", desc := "()Ljava/lang/Throwable;" } : Jvm.MethodName)) ∈ lw_all := lw_g (lw_at lw_m10 17 rfl) rfl
theorem q2285 : (Jvm.Cond.instanceMethod ({ cls := "PrinterClaims", name := "writeOffice", desc := "(I)I" } : Jvm.MethodName)) ∈ lw_all := lw_g (lw_at lw_m10 27 rfl) rfl
theorem q2286 : (Jvm.Cond.selects "PrinterClaims" ({ cls := "PrinterClaims", name := "writeOffice", desc := "(I)I" } : Jvm.MethodName) ({ cls := "PrinterClaims", name := "writeOffice", desc := "(I)I" } : Jvm.MethodName)) ∈ lw_all := lw_g (lw_at lw_m10 28 rfl) rfl
theorem q2287 : (Jvm.Cond.code ({ cls := "PrinterClaims", name := "writeOffice", desc := "(I)I" } : Jvm.MethodName) prog_1_method_62_code (5 : Nat) (Option.some Jvm.ClassFile.FieldType.int)) ∈ lw_all := lw_g (lw_at lw_m10 29 rfl) rfl
theorem q2288 : (Jvm.Cond.classLink "PrinterClaims" (365 : Nat) "java/lang/StringBuilder") ∈ lw_all := lw_g (lw_at lw_m10 30 rfl) rfl
theorem q2289 : (Jvm.Cond.methodLink "PrinterClaims" (367 : Nat) ({ cls := "java/lang/StringBuilder", name := "<init>", desc := "()V" } : Jvm.MethodName)) ∈ lw_all := lw_g (lw_at lw_m10 31 rfl) rfl
theorem q2290 : (Jvm.Cond.stringRef "PrinterClaims" (368 : Nat) " ") ∈ lw_tbl := lw_at lw_m10 32 rfl
theorem q2291 : (Jvm.Cond.methodLink "PrinterClaims" (370 : Nat) ({ cls := "java/lang/StringBuilder", name := "append", desc := "(Ljava/lang/String;)Ljava/lang/StringBuilder;" } : Jvm.MethodName)) ∈ lw_all := lw_g (lw_at lw_m10 33 rfl) rfl
theorem q2292 : (Jvm.Cond.methodLink "PrinterClaims" (374 : Nat) ({ cls := "java/lang/StringBuilder", name := "append", desc := "(I)Ljava/lang/StringBuilder;" } : Jvm.MethodName)) ∈ lw_all := lw_g (lw_at lw_m10 34 rfl) rfl
theorem q2293 : (Jvm.Cond.methodLink "PrinterClaims" (377 : Nat) ({ cls := "java/lang/StringBuilder", name := "append", desc := "(C)Ljava/lang/StringBuilder;" } : Jvm.MethodName)) ∈ lw_all := lw_g (lw_at lw_m10 35 rfl) rfl
theorem q2294 : (Jvm.Cond.stringRef "PrinterClaims" (380 : Nat) " ?") ∈ lw_tbl := lw_at lw_m10 36 rfl
theorem q2295 : (Jvm.Cond.methodLink "PrinterClaims" (382 : Nat) ({ cls := "java/lang/StringBuilder", name := "toString", desc := "()Ljava/lang/String;" } : Jvm.MethodName)) ∈ lw_all := lw_g (lw_at lw_m10 37 rfl) rfl
theorem q2296 : (Jvm.Cond.methodLink "PrinterClaims" (386 : Nat) ({ cls := "java/lang/String", name := "length", desc := "()I" } : Jvm.MethodName)) ∈ lw_all := lw_g (lw_at lw_m10 38 rfl) rfl
theorem q2301 : (Jvm.Cond.instanceMethod ({ cls := "PrinterClaims", name := "outputByte", desc := "(I)I" } : Jvm.MethodName)) ∈ lw_all := lw_g (lw_at lw_m10 43 rfl) rfl
theorem q2302 : (Jvm.Cond.selects "PrinterClaims" ({ cls := "PrinterClaims", name := "outputByte", desc := "(I)I" } : Jvm.MethodName) ({ cls := "PrinterClaims", name := "outputByte", desc := "(I)I" } : Jvm.MethodName)) ∈ lw_all := lw_g (lw_at lw_m10 44 rfl) rfl
theorem q2303 : (Jvm.Cond.code ({ cls := "PrinterClaims", name := "outputByte", desc := "(I)I" } : Jvm.MethodName) prog_1_method_63_code (2 : Nat) (Option.some Jvm.ClassFile.FieldType.int)) ∈ lw_all := lw_g (lw_at lw_m10 45 rfl) rfl
theorem q2304 : (Jvm.Cond.methodLink "PrinterClaims" (391 : Nat) ({ cls := "java/lang/String", name := "charAt", desc := "(I)C" } : Jvm.MethodName)) ∈ lw_all := lw_g (lw_at lw_m10 46 rfl) rfl
theorem q2319 : (Jvm.Cond.instanceMethod ({ cls := "PrinterClaims", name := "undo", desc := "()I" } : Jvm.MethodName)) ∈ lw_all := lw_g (lw_at lw_m10 61 rfl) rfl
theorem q2320 : (Jvm.Cond.selects "PrinterClaims" ({ cls := "PrinterClaims", name := "undo", desc := "()I" } : Jvm.MethodName) ({ cls := "PrinterClaims", name := "undo", desc := "()I" } : Jvm.MethodName)) ∈ lw_all := lw_g (lw_at lw_m10 62 rfl) rfl
theorem q2321 : (Jvm.Cond.code ({ cls := "PrinterClaims", name := "undo", desc := "()I" } : Jvm.MethodName) prog_1_method_65_code (1 : Nat) (Option.some Jvm.ClassFile.FieldType.int)) ∈ lw_all := lw_g (lw_at lw_m10 63 rfl) rfl
theorem q2322 : (Jvm.Cond.methodLink "PrinterClaims" (395 : Nat) ({ cls := "java/util/ArrayDeque", name := "isEmpty", desc := "()Z" } : Jvm.MethodName)) ∈ lw_all := lw_g (lw_at lw_m10 64 rfl) rfl
theorem q2326 : (Jvm.Cond.classLink "PrinterClaims" (398 : Nat) "java/lang/IllegalStateException") ∈ lw_all := lw_g (lw_at lw_m10 68 rfl) rfl
theorem q2327 : (Jvm.Cond.methodLink "PrinterClaims" (400 : Nat) ({ cls := "java/lang/IllegalStateException", name := "<init>", desc := "()V" } : Jvm.MethodName)) ∈ lw_all := lw_g (lw_at lw_m10 69 rfl) rfl
theorem q2328 : (Jvm.Cond.methodLink "PrinterClaims" (401 : Nat) ({ cls := "java/util/ArrayDeque", name := "removeLast", desc := "()Ljava/lang/Object;" } : Jvm.MethodName)) ∈ lw_all := lw_g (lw_at lw_m10 70 rfl) rfl
theorem q2343 : (Jvm.Cond.instanceMethod ({ cls := "PrinterClaims", name := "restoreSnapshot", desc := "()I" } : Jvm.MethodName)) ∈ lw_all := lw_g (lw_at lw_m10 85 rfl) rfl
theorem q2344 : (Jvm.Cond.selects "PrinterClaims" ({ cls := "PrinterClaims", name := "restoreSnapshot", desc := "()I" } : Jvm.MethodName) ({ cls := "PrinterClaims", name := "restoreSnapshot", desc := "()I" } : Jvm.MethodName)) ∈ lw_all := lw_g (lw_at lw_m10 86 rfl) rfl
theorem q2345 : (Jvm.Cond.code ({ cls := "PrinterClaims", name := "restoreSnapshot", desc := "()I" } : Jvm.MethodName) prog_1_method_67_code (1 : Nat) (Option.some Jvm.ClassFile.FieldType.int)) ∈ lw_all := lw_g (lw_at lw_m10 87 rfl) rfl
theorem q2959 : (Jvm.Cond.castable "PrinterClaims" "java/lang/Object") ∈ lw_tbl := lw_at lw_m12 221 rfl
theorem in_X1 : ∀ w ∈ wsX10, w ∈ lw_all := lw_in wsX10 [704, 706, 708, 710, 712, 714, 716, 718] (by decide +kernel) (by decide +kernel)

/-! PrinterClaims$State -/
set_option maxRecDepth 100000
def RX2 : String := "PrinterClaims$State"
def TX2 : u_T := fun k => match k with
  | 0 => ("PrinterClaims$State", "totals", "[I", true)
  | 1 => ("PrinterClaims$State", "offices", "Ljava/util/List;", true)
  | 2 => ("PrinterClaims$State", "wishes", "Ljava/util/List;", true)
  | 3 => ("PrinterClaims$State", "loaded", "I", false)
  | 4 => ("PrinterClaims$State", "granted", "I", false)
  | 5 => ("PrinterClaims$State", "grantedPrinters", "I", false)
  | 6 => ("PrinterClaims$State", "delayed", "I", false)
  | 7 => ("PrinterClaims$State", "\x75nsafe", "I", false)
  | _ => ("PrinterClaims$State", "returned", "I", false)
def tyX2 : Nat → FieldType := fun k => match k with
  | 0 => .array .int
  | 1 => .object "java/util/List"
  | 2 => .object "java/util/List"
  | 3 => .int
  | 4 => .int
  | 5 => .int
  | 6 => .int
  | 7 => .int
  | _ => .int
abbrev wsX20 : List Cond := u_ws RX2 TX2 9
theorem nmX2 : ∀ a, a < 9 → ∀ b, b < 9 → a ≠ b → (TX2 a).2.1 ≠ (TX2 b).2.1 := by decide +kernel
theorem tyX2_ok : ∀ k, k < 9 → parseFieldDescriptor (TX2 k).2.2.1 = some (tyX2 k) := by decide +kernel
abbrev cX2_init : ByteArray := prog_25_method_1_code
def yX2_init : MethodName := ⟨RX2, "<init>", "([I)V"⟩
def dkwX2_init_1 : List UInt8 := [183, 0, 11, 181, 0, 20, 42, 43, 181, 0, 23, 177]
abbrev dktX2_init_1 : List UInt8 := dkwX2_init_1 ++ []
def dkwX2_init_0 : List UInt8 := [42, 183, 0, 3, 42, 187, 0, 9, 89, 16, 8, 183, 0, 11, 181, 0, 14, 42, 187, 0, 9, 89, 16, 8]
abbrev dktX2_init_0 : List UInt8 := dkwX2_init_0 ++ dktX2_init_1
theorem dksX2_init_0 : cX2_init.data.toList.drop 0 = dktX2_init_0 := by decide +kernel
theorem dksX2_init_1 : cX2_init.data.toList.drop 24 = dktX2_init_1 := dk_seg dksX2_init_0 24 rfl rfl
theorem dX2_init_0 : decode cX2_init 0 = .ok (.aload_n 0, 1) := dk_42 (dk_at dksX2_init_0 0 rfl rfl)
theorem dX2_init_1 : decode cX2_init 1 = .ok (.invokespecial 3, 3) := dk_183 0 3 (dk_at dksX2_init_0 1 rfl rfl)
theorem dX2_init_4 : decode cX2_init 4 = .ok (.aload_n 0, 1) := dk_42 (dk_at dksX2_init_0 4 rfl rfl)
theorem dX2_init_5 : decode cX2_init 5 = .ok (.new 9, 3) := dk_187 0 9 (dk_at dksX2_init_0 5 rfl rfl)
theorem dX2_init_8 : decode cX2_init 8 = .ok (.dup, 1) := dk_89 (dk_at dksX2_init_0 8 rfl rfl)
theorem dX2_init_9 : decode cX2_init 9 = .ok (.bipush 8, 2) := dk_16 8 (dk_at dksX2_init_0 9 rfl rfl)
theorem dX2_init_11 : decode cX2_init 11 = .ok (.invokespecial 11, 3) := dk_183 0 11 (dk_at dksX2_init_0 11 rfl rfl)
theorem dX2_init_14 : decode cX2_init 14 = .ok (.putfield 14, 3) := dk_181 0 14 (dk_at dksX2_init_0 14 rfl rfl)
theorem dX2_init_17 : decode cX2_init 17 = .ok (.aload_n 0, 1) := dk_42 (dk_at dksX2_init_0 17 rfl rfl)
theorem dX2_init_18 : decode cX2_init 18 = .ok (.new 9, 3) := dk_187 0 9 (dk_at dksX2_init_0 18 rfl rfl)
theorem dX2_init_21 : decode cX2_init 21 = .ok (.dup, 1) := dk_89 (dk_at dksX2_init_0 21 rfl rfl)
theorem dX2_init_22 : decode cX2_init 22 = .ok (.bipush 8, 2) := dk_16 8 (dk_at dksX2_init_0 22 rfl rfl)
theorem dX2_init_24 : decode cX2_init 24 = .ok (.invokespecial 11, 3) := dk_183 0 11 (dk_at dksX2_init_1 0 rfl rfl)
theorem dX2_init_27 : decode cX2_init 27 = .ok (.putfield 20, 3) := dk_181 0 20 (dk_at dksX2_init_1 3 rfl rfl)
theorem dX2_init_30 : decode cX2_init 30 = .ok (.aload_n 0, 1) := dk_42 (dk_at dksX2_init_1 6 rfl rfl)
theorem dX2_init_31 : decode cX2_init 31 = .ok (.aload_n 1, 1) := dk_43 (dk_at dksX2_init_1 7 rfl rfl)
theorem dX2_init_32 : decode cX2_init 32 = .ok (.putfield 23, 3) := dk_181 0 23 (dk_at dksX2_init_1 8 rfl rfl)
theorem dX2_init_35 : decode cX2_init 35 = .ok (.return_, 1) := dk_177 (dk_at dksX2_init_1 11 rfl rfl)
abbrev cX2_add : ByteArray := prog_25_method_8_code
def yX2_add : MethodName := ⟨RX2, "add", "(LPrinterClaims$Office;)V"⟩
def dkwX2_add_1 : List UInt8 := [181, 0, 57, 177]
abbrev dktX2_add_1 : List UInt8 := dkwX2_add_1 ++ []
def dkwX2_add_0 : List UInt8 := [42, 180, 0, 14, 43, 185, 0, 51, 2, 0, 87, 42, 89, 180, 0, 57, 43, 180, 0, 87, 184, 0, 90, 96]
abbrev dktX2_add_0 : List UInt8 := dkwX2_add_0 ++ dktX2_add_1
theorem dksX2_add_0 : cX2_add.data.toList.drop 0 = dktX2_add_0 := by decide +kernel
theorem dksX2_add_1 : cX2_add.data.toList.drop 24 = dktX2_add_1 := dk_seg dksX2_add_0 24 rfl rfl
theorem dX2_add_0 : decode cX2_add 0 = .ok (.aload_n 0, 1) := dk_42 (dk_at dksX2_add_0 0 rfl rfl)
theorem dX2_add_1 : decode cX2_add 1 = .ok (.getfield 14, 3) := dk_180 0 14 (dk_at dksX2_add_0 1 rfl rfl)
theorem dX2_add_4 : decode cX2_add 4 = .ok (.aload_n 1, 1) := dk_43 (dk_at dksX2_add_0 4 rfl rfl)
theorem dX2_add_5 : decode cX2_add 5 = .ok (.invokeinterface 51 2, 5) := by decide +kernel
theorem dX2_add_10 : decode cX2_add 10 = .ok (.pop, 1) := dk_87 (dk_at dksX2_add_0 10 rfl rfl)
theorem dX2_add_11 : decode cX2_add 11 = .ok (.aload_n 0, 1) := dk_42 (dk_at dksX2_add_0 11 rfl rfl)
theorem dX2_add_12 : decode cX2_add 12 = .ok (.dup, 1) := dk_89 (dk_at dksX2_add_0 12 rfl rfl)
theorem dX2_add_13 : decode cX2_add 13 = .ok (.getfield 57, 3) := dk_180 0 57 (dk_at dksX2_add_0 13 rfl rfl)
theorem dX2_add_16 : decode cX2_add 16 = .ok (.aload_n 1, 1) := dk_43 (dk_at dksX2_add_0 16 rfl rfl)
theorem dX2_add_17 : decode cX2_add 17 = .ok (.getfield 87, 3) := dk_180 0 87 (dk_at dksX2_add_0 17 rfl rfl)
theorem dX2_add_20 : decode cX2_add 20 = .ok (.invokestatic 90, 3) := dk_184 0 90 (dk_at dksX2_add_0 20 rfl rfl)
theorem dX2_add_23 : decode cX2_add 23 = .ok (.iadd, 1) := dk_96 (dk_at dksX2_add_0 23 rfl rfl)
theorem dX2_add_24 : decode cX2_add 24 = .ok (.putfield 57, 3) := dk_181 0 57 (dk_at dksX2_add_1 0 rfl rfl)
theorem dX2_add_27 : decode cX2_add 27 = .ok (.return_, 1) := dk_177 (dk_at dksX2_add_1 3 rfl rfl)
abbrev cX2_sum : ByteArray := prog_25_method_12_code
def yX2_sum : MethodName := ⟨RX2, "sum", "([I)I"⟩
theorem dX2_sum_0 : decode cX2_sum 0 = .ok (.aload_n 0, 1) := by decide +kernel
theorem dX2_sum_1 : decode cX2_sum 1 = .ok (.invokestatic 98, 3) := by decide +kernel
theorem dX2_sum_4 : decode cX2_sum 4 = .ok (.ireturn, 1) := by decide +kernel
abbrev cX2_kinds : ByteArray := prog_25_method_3_code
def yX2_kinds : MethodName := ⟨RX2, "kinds", "()I"⟩
def dkwX2_kinds_0 : List UInt8 := [42, 180, 0, 23, 190, 172]
abbrev dktX2_kinds_0 : List UInt8 := dkwX2_kinds_0 ++ []
theorem dksX2_kinds_0 : cX2_kinds.data.toList.drop 0 = dktX2_kinds_0 := by decide +kernel
theorem dX2_kinds_0 : decode cX2_kinds 0 = .ok (.aload_n 0, 1) := dk_42 (dk_at dksX2_kinds_0 0 rfl rfl)
theorem dX2_kinds_1 : decode cX2_kinds 1 = .ok (.getfield 23, 3) := dk_180 0 23 (dk_at dksX2_kinds_0 1 rfl rfl)
theorem dX2_kinds_4 : decode cX2_kinds 4 = .ok (.arraylength, 1) := dk_190 (dk_at dksX2_kinds_0 4 rfl rfl)
theorem dX2_kinds_5 : decode cX2_kinds 5 = .ok (.ireturn, 1) := dk_172 (dk_at dksX2_kinds_0 5 rfl rfl)
abbrev cX2_available : ByteArray := prog_25_method_9_code
def yX2_available : MethodName := ⟨RX2, "available", "(I)I"⟩
def dkwX2_available_2 : List UInt8 := [167, 255, 219, 28, 172]
abbrev dktX2_available_2 : List UInt8 := dkwX2_available_2 ++ []
def dkwX2_available_1 : List UInt8 := [180, 0, 14, 29, 185, 0, 41, 2, 0, 192, 0, 45, 180, 0, 87, 27, 46, 100, 61, 132, 3, 1]
abbrev dktX2_available_1 : List UInt8 := dkwX2_available_1 ++ dktX2_available_2
def dkwX2_available_0 : List UInt8 := [42, 180, 0, 23, 27, 46, 61, 3, 62, 29, 42, 180, 0, 14, 185, 0, 35, 1, 0, 162, 0, 30, 28, 42]
abbrev dktX2_available_0 : List UInt8 := dkwX2_available_0 ++ dktX2_available_1
theorem dksX2_available_0 : cX2_available.data.toList.drop 0 = dktX2_available_0 := by decide +kernel
theorem dksX2_available_1 : cX2_available.data.toList.drop 24 = dktX2_available_1 := dk_seg dksX2_available_0 24 rfl rfl
theorem dksX2_available_2 : cX2_available.data.toList.drop 46 = dktX2_available_2 := dk_seg dksX2_available_1 22 rfl rfl
theorem dX2_available_0 : decode cX2_available 0 = .ok (.aload_n 0, 1) := dk_42 (dk_at dksX2_available_0 0 rfl rfl)
theorem dX2_available_1 : decode cX2_available 1 = .ok (.getfield 23, 3) := dk_180 0 23 (dk_at dksX2_available_0 1 rfl rfl)
theorem dX2_available_4 : decode cX2_available 4 = .ok (.iload_n 1, 1) := dk_27 (dk_at dksX2_available_0 4 rfl rfl)
theorem dX2_available_5 : decode cX2_available 5 = .ok (.iaload, 1) := dk_46 (dk_at dksX2_available_0 5 rfl rfl)
theorem dX2_available_6 : decode cX2_available 6 = .ok (.istore_n 2, 1) := dk_61 (dk_at dksX2_available_0 6 rfl rfl)
theorem dX2_available_7 : decode cX2_available 7 = .ok (.iconst 0, 1) := dk_3 (dk_at dksX2_available_0 7 rfl rfl)
theorem dX2_available_8 : decode cX2_available 8 = .ok (.istore_n 3, 1) := dk_62 (dk_at dksX2_available_0 8 rfl rfl)
theorem dX2_available_9 : decode cX2_available 9 = .ok (.iload_n 3, 1) := dk_29 (dk_at dksX2_available_0 9 rfl rfl)
theorem dX2_available_10 : decode cX2_available 10 = .ok (.aload_n 0, 1) := dk_42 (dk_at dksX2_available_0 10 rfl rfl)
theorem dX2_available_11 : decode cX2_available 11 = .ok (.getfield 14, 3) := dk_180 0 14 (dk_at dksX2_available_0 11 rfl rfl)
theorem dX2_available_14 : decode cX2_available 14 = .ok (.invokeinterface 35 1, 5) := by decide +kernel
theorem dX2_available_19 : decode cX2_available 19 = .ok (.if_icmp .ge 30, 3) := dk_162 0 30 (dk_at dksX2_available_0 19 rfl rfl)
theorem dX2_available_22 : decode cX2_available 22 = .ok (.iload_n 2, 1) := dk_28 (dk_at dksX2_available_0 22 rfl rfl)
theorem dX2_available_23 : decode cX2_available 23 = .ok (.aload_n 0, 1) := dk_42 (dk_at dksX2_available_0 23 rfl rfl)
theorem dX2_available_24 : decode cX2_available 24 = .ok (.getfield 14, 3) := dk_180 0 14 (dk_at dksX2_available_1 0 rfl rfl)
theorem dX2_available_27 : decode cX2_available 27 = .ok (.iload_n 3, 1) := dk_29 (dk_at dksX2_available_1 3 rfl rfl)
theorem dX2_available_28 : decode cX2_available 28 = .ok (.invokeinterface 41 2, 5) := by decide +kernel
theorem dX2_available_33 : decode cX2_available 33 = .ok (.checkcast 45, 3) := dk_192 0 45 (dk_at dksX2_available_1 9 rfl rfl)
theorem dX2_available_36 : decode cX2_available 36 = .ok (.getfield 87, 3) := dk_180 0 87 (dk_at dksX2_available_1 12 rfl rfl)
theorem dX2_available_39 : decode cX2_available 39 = .ok (.iload_n 1, 1) := dk_27 (dk_at dksX2_available_1 15 rfl rfl)
theorem dX2_available_40 : decode cX2_available 40 = .ok (.iaload, 1) := dk_46 (dk_at dksX2_available_1 16 rfl rfl)
theorem dX2_available_41 : decode cX2_available 41 = .ok (.isub, 1) := dk_100 (dk_at dksX2_available_1 17 rfl rfl)
theorem dX2_available_42 : decode cX2_available 42 = .ok (.istore_n 2, 1) := dk_61 (dk_at dksX2_available_1 18 rfl rfl)
theorem dX2_available_43 : decode cX2_available 43 = .ok (.iinc 3 1, 3) := dk_132 3 1 (dk_at dksX2_available_1 19 rfl rfl)
theorem dX2_available_46 : decode cX2_available 46 = .ok (.goto (-37), 3) := dk_167 255 219 (dk_at dksX2_available_2 0 rfl rfl)
theorem dX2_available_49 : decode cX2_available 49 = .ok (.iload_n 2, 1) := dk_28 (dk_at dksX2_available_2 3 rfl rfl)
theorem dX2_available_50 : decode cX2_available 50 = .ok (.ireturn, 1) := dk_172 (dk_at dksX2_available_2 4 rfl rfl)
abbrev cX2_allocated : ByteArray := prog_25_method_11_code
def yX2_allocated : MethodName := ⟨RX2, "allocated", "()I"⟩
def dkwX2_allocated_1 : List UInt8 := [185, 0, 41, 2, 0, 192, 0, 45, 180, 0, 87, 184, 0, 90, 96, 60, 132, 2, 1, 167, 255, 218, 27, 172]
abbrev dktX2_allocated_1 : List UInt8 := dkwX2_allocated_1 ++ []
def dkwX2_allocated_0 : List UInt8 := [3, 60, 3, 61, 28, 42, 180, 0, 14, 185, 0, 35, 1, 0, 162, 0, 31, 27, 42, 180, 0, 14, 28]
abbrev dktX2_allocated_0 : List UInt8 := dkwX2_allocated_0 ++ dktX2_allocated_1
theorem dksX2_allocated_0 : cX2_allocated.data.toList.drop 0 = dktX2_allocated_0 := by decide +kernel
theorem dksX2_allocated_1 : cX2_allocated.data.toList.drop 23 = dktX2_allocated_1 := dk_seg dksX2_allocated_0 23 rfl rfl
theorem dX2_allocated_0 : decode cX2_allocated 0 = .ok (.iconst 0, 1) := dk_3 (dk_at dksX2_allocated_0 0 rfl rfl)
theorem dX2_allocated_1 : decode cX2_allocated 1 = .ok (.istore_n 1, 1) := dk_60 (dk_at dksX2_allocated_0 1 rfl rfl)
theorem dX2_allocated_2 : decode cX2_allocated 2 = .ok (.iconst 0, 1) := dk_3 (dk_at dksX2_allocated_0 2 rfl rfl)
theorem dX2_allocated_3 : decode cX2_allocated 3 = .ok (.istore_n 2, 1) := dk_61 (dk_at dksX2_allocated_0 3 rfl rfl)
theorem dX2_allocated_4 : decode cX2_allocated 4 = .ok (.iload_n 2, 1) := dk_28 (dk_at dksX2_allocated_0 4 rfl rfl)
theorem dX2_allocated_5 : decode cX2_allocated 5 = .ok (.aload_n 0, 1) := dk_42 (dk_at dksX2_allocated_0 5 rfl rfl)
theorem dX2_allocated_6 : decode cX2_allocated 6 = .ok (.getfield 14, 3) := dk_180 0 14 (dk_at dksX2_allocated_0 6 rfl rfl)
theorem dX2_allocated_9 : decode cX2_allocated 9 = .ok (.invokeinterface 35 1, 5) := by decide +kernel
theorem dX2_allocated_14 : decode cX2_allocated 14 = .ok (.if_icmp .ge 31, 3) := dk_162 0 31 (dk_at dksX2_allocated_0 14 rfl rfl)
theorem dX2_allocated_17 : decode cX2_allocated 17 = .ok (.iload_n 1, 1) := dk_27 (dk_at dksX2_allocated_0 17 rfl rfl)
theorem dX2_allocated_18 : decode cX2_allocated 18 = .ok (.aload_n 0, 1) := dk_42 (dk_at dksX2_allocated_0 18 rfl rfl)
theorem dX2_allocated_19 : decode cX2_allocated 19 = .ok (.getfield 14, 3) := dk_180 0 14 (dk_at dksX2_allocated_0 19 rfl rfl)
theorem dX2_allocated_22 : decode cX2_allocated 22 = .ok (.iload_n 2, 1) := dk_28 (dk_at dksX2_allocated_0 22 rfl rfl)
theorem dX2_allocated_23 : decode cX2_allocated 23 = .ok (.invokeinterface 41 2, 5) := by decide +kernel
theorem dX2_allocated_28 : decode cX2_allocated 28 = .ok (.checkcast 45, 3) := dk_192 0 45 (dk_at dksX2_allocated_1 5 rfl rfl)
theorem dX2_allocated_31 : decode cX2_allocated 31 = .ok (.getfield 87, 3) := dk_180 0 87 (dk_at dksX2_allocated_1 8 rfl rfl)
theorem dX2_allocated_34 : decode cX2_allocated 34 = .ok (.invokestatic 90, 3) := dk_184 0 90 (dk_at dksX2_allocated_1 11 rfl rfl)
theorem dX2_allocated_37 : decode cX2_allocated 37 = .ok (.iadd, 1) := dk_96 (dk_at dksX2_allocated_1 14 rfl rfl)
theorem dX2_allocated_38 : decode cX2_allocated 38 = .ok (.istore_n 1, 1) := dk_60 (dk_at dksX2_allocated_1 15 rfl rfl)
theorem dX2_allocated_39 : decode cX2_allocated 39 = .ok (.iinc 2 1, 3) := dk_132 2 1 (dk_at dksX2_allocated_1 16 rfl rfl)
theorem dX2_allocated_42 : decode cX2_allocated 42 = .ok (.goto (-38), 3) := dk_167 255 218 (dk_at dksX2_allocated_1 19 rfl rfl)
theorem dX2_allocated_45 : decode cX2_allocated 45 = .ok (.iload_n 1, 1) := dk_27 (dk_at dksX2_allocated_1 22 rfl rfl)
theorem dX2_allocated_46 : decode cX2_allocated 46 = .ok (.ireturn, 1) := dk_172 (dk_at dksX2_allocated_1 23 rfl rfl)
abbrev cX2_available_2 : ByteArray := prog_25_method_10_code
def yX2_available_2 : MethodName := ⟨RX2, "available", "()[I"⟩
def dkwX2_available_2_1 : List UInt8 := [182, 0, 94, 79, 132, 2, 1, 167, 255, 236, 43, 176]
abbrev dktX2_available_2_1 : List UInt8 := dkwX2_available_2_1 ++ []
def dkwX2_available_2_0 : List UInt8 := [42, 180, 0, 23, 190, 188, 10, 76, 3, 61, 28, 42, 180, 0, 23, 190, 162, 0, 17, 43, 28, 42, 28]
abbrev dktX2_available_2_0 : List UInt8 := dkwX2_available_2_0 ++ dktX2_available_2_1
theorem dksX2_available_2_0 : cX2_available_2.data.toList.drop 0 = dktX2_available_2_0 := by decide +kernel
theorem dksX2_available_2_1 : cX2_available_2.data.toList.drop 23 = dktX2_available_2_1 := dk_seg dksX2_available_2_0 23 rfl rfl
theorem dX2_available_2_0 : decode cX2_available_2 0 = .ok (.aload_n 0, 1) := dk_42 (dk_at dksX2_available_2_0 0 rfl rfl)
theorem dX2_available_2_1 : decode cX2_available_2 1 = .ok (.getfield 23, 3) := dk_180 0 23 (dk_at dksX2_available_2_0 1 rfl rfl)
theorem dX2_available_2_4 : decode cX2_available_2 4 = .ok (.arraylength, 1) := dk_190 (dk_at dksX2_available_2_0 4 rfl rfl)
theorem dX2_available_2_5 : decode cX2_available_2 5 = .ok (.newarray .int, 2) := dk_188_10 (dk_at dksX2_available_2_0 5 rfl rfl)
theorem dX2_available_2_7 : decode cX2_available_2 7 = .ok (.astore_n 1, 1) := dk_76 (dk_at dksX2_available_2_0 7 rfl rfl)
theorem dX2_available_2_8 : decode cX2_available_2 8 = .ok (.iconst 0, 1) := dk_3 (dk_at dksX2_available_2_0 8 rfl rfl)
theorem dX2_available_2_9 : decode cX2_available_2 9 = .ok (.istore_n 2, 1) := dk_61 (dk_at dksX2_available_2_0 9 rfl rfl)
theorem dX2_available_2_10 : decode cX2_available_2 10 = .ok (.iload_n 2, 1) := dk_28 (dk_at dksX2_available_2_0 10 rfl rfl)
theorem dX2_available_2_11 : decode cX2_available_2 11 = .ok (.aload_n 0, 1) := dk_42 (dk_at dksX2_available_2_0 11 rfl rfl)
theorem dX2_available_2_12 : decode cX2_available_2 12 = .ok (.getfield 23, 3) := dk_180 0 23 (dk_at dksX2_available_2_0 12 rfl rfl)
theorem dX2_available_2_15 : decode cX2_available_2 15 = .ok (.arraylength, 1) := dk_190 (dk_at dksX2_available_2_0 15 rfl rfl)
theorem dX2_available_2_16 : decode cX2_available_2 16 = .ok (.if_icmp .ge 17, 3) := dk_162 0 17 (dk_at dksX2_available_2_0 16 rfl rfl)
theorem dX2_available_2_19 : decode cX2_available_2 19 = .ok (.aload_n 1, 1) := dk_43 (dk_at dksX2_available_2_0 19 rfl rfl)
theorem dX2_available_2_20 : decode cX2_available_2 20 = .ok (.iload_n 2, 1) := dk_28 (dk_at dksX2_available_2_0 20 rfl rfl)
theorem dX2_available_2_21 : decode cX2_available_2 21 = .ok (.aload_n 0, 1) := dk_42 (dk_at dksX2_available_2_0 21 rfl rfl)
theorem dX2_available_2_22 : decode cX2_available_2 22 = .ok (.iload_n 2, 1) := dk_28 (dk_at dksX2_available_2_0 22 rfl rfl)
theorem dX2_available_2_23 : decode cX2_available_2 23 = .ok (.invokevirtual 94, 3) := dk_182 0 94 (dk_at dksX2_available_2_1 0 rfl rfl)
theorem dX2_available_2_26 : decode cX2_available_2 26 = .ok (.iastore, 1) := dk_79 (dk_at dksX2_available_2_1 3 rfl rfl)
theorem dX2_available_2_27 : decode cX2_available_2 27 = .ok (.iinc 2 1, 3) := dk_132 2 1 (dk_at dksX2_available_2_1 4 rfl rfl)
theorem dX2_available_2_30 : decode cX2_available_2 30 = .ok (.goto (-20), 3) := dk_167 255 236 (dk_at dksX2_available_2_1 7 rfl rfl)
theorem dX2_available_2_33 : decode cX2_available_2 33 = .ok (.aload_n 1, 1) := dk_43 (dk_at dksX2_available_2_1 10 rfl rfl)
theorem dX2_available_2_34 : decode cX2_available_2 34 = .ok (.areturn, 1) := dk_176 (dk_at dksX2_available_2_1 11 rfl rfl)
abbrev cX2_get : ByteArray := prog_25_method_7_code
def yX2_get : MethodName := ⟨RX2, "get", "(I)LPrinterClaims$Office;"⟩
def dkwX2_get_0 : List UInt8 := [42, 180, 0, 14, 27, 185, 0, 41, 2, 0, 192, 0, 45, 176]
abbrev dktX2_get_0 : List UInt8 := dkwX2_get_0 ++ []
theorem dksX2_get_0 : cX2_get.data.toList.drop 0 = dktX2_get_0 := by decide +kernel
theorem dX2_get_0 : decode cX2_get 0 = .ok (.aload_n 0, 1) := dk_42 (dk_at dksX2_get_0 0 rfl rfl)
theorem dX2_get_1 : decode cX2_get 1 = .ok (.getfield 14, 3) := dk_180 0 14 (dk_at dksX2_get_0 1 rfl rfl)
theorem dX2_get_4 : decode cX2_get 4 = .ok (.iload_n 1, 1) := dk_27 (dk_at dksX2_get_0 4 rfl rfl)
theorem dX2_get_5 : decode cX2_get 5 = .ok (.invokeinterface 41 2, 5) := by decide +kernel
theorem dX2_get_10 : decode cX2_get 10 = .ok (.checkcast 45, 3) := dk_192 0 45 (dk_at dksX2_get_0 10 rfl rfl)
theorem dX2_get_13 : decode cX2_get 13 = .ok (.areturn, 1) := dk_176 (dk_at dksX2_get_0 13 rfl rfl)
abbrev cX2_copy : ByteArray := prog_25_method_2_code
def yX2_copy : MethodName := ⟨RX2, "copy", "()LPrinterClaims$State;"⟩
def dkwX2_copy_6 : List UInt8 := [180, 0, 67, 181, 0, 67, 43, 42, 180, 0, 70, 181, 0, 70, 43, 42, 180, 0, 73, 181, 0, 73, 43, 176]
abbrev dktX2_copy_6 : List UInt8 := dkwX2_copy_6 ++ []
def dkwX2_copy_5 : List UInt8 := [180, 0, 57, 181, 0, 57, 43, 42, 180, 0, 61, 181, 0, 61, 43, 42, 180, 0, 64, 181, 0, 64, 43, 42]
abbrev dktX2_copy_5 : List UInt8 := dkwX2_copy_5 ++ dktX2_copy_6
def dkwX2_copy_4 : List UInt8 := [185, 0, 41, 2, 0, 192, 0, 55, 185, 0, 51, 2, 0, 87, 132, 2, 1, 167, 255, 217, 43, 42]
abbrev dktX2_copy_4 : List UInt8 := dkwX2_copy_4 ++ dktX2_copy_5
def dkwX2_copy_3 : List UInt8 := [61, 28, 42, 180, 0, 20, 185, 0, 35, 1, 0, 162, 0, 32, 43, 180, 0, 20, 42, 180, 0, 20, 28]
abbrev dktX2_copy_3 : List UInt8 := dkwX2_copy_3 ++ dktX2_copy_4
def dkwX2_copy_2 : List UInt8 := [185, 0, 41, 2, 0, 192, 0, 45, 182, 0, 47, 185, 0, 51, 2, 0, 87, 132, 2, 1, 167, 255, 214, 3]
abbrev dktX2_copy_2 : List UInt8 := dkwX2_copy_2 ++ dktX2_copy_3
def dkwX2_copy_1 : List UInt8 := [180, 0, 14, 185, 0, 35, 1, 0, 162, 0, 35, 43, 180, 0, 14, 42, 180, 0, 14, 28]
abbrev dktX2_copy_1 : List UInt8 := dkwX2_copy_1 ++ dktX2_copy_2
def dkwX2_copy_0 : List UInt8 := [187, 0, 15, 89, 42, 180, 0, 23, 182, 0, 27, 192, 0, 28, 183, 0, 32, 76, 3, 61, 28, 42]
abbrev dktX2_copy_0 : List UInt8 := dkwX2_copy_0 ++ dktX2_copy_1
theorem dksX2_copy_0 : cX2_copy.data.toList.drop 0 = dktX2_copy_0 := by decide +kernel
theorem dksX2_copy_1 : cX2_copy.data.toList.drop 22 = dktX2_copy_1 := dk_seg dksX2_copy_0 22 rfl rfl
theorem dksX2_copy_2 : cX2_copy.data.toList.drop 42 = dktX2_copy_2 := dk_seg dksX2_copy_1 20 rfl rfl
theorem dksX2_copy_3 : cX2_copy.data.toList.drop 66 = dktX2_copy_3 := dk_seg dksX2_copy_2 24 rfl rfl
theorem dksX2_copy_4 : cX2_copy.data.toList.drop 89 = dktX2_copy_4 := dk_seg dksX2_copy_3 23 rfl rfl
theorem dksX2_copy_5 : cX2_copy.data.toList.drop 111 = dktX2_copy_5 := dk_seg dksX2_copy_4 22 rfl rfl
theorem dksX2_copy_6 : cX2_copy.data.toList.drop 135 = dktX2_copy_6 := dk_seg dksX2_copy_5 24 rfl rfl
theorem dX2_copy_0 : decode cX2_copy 0 = .ok (.new 15, 3) := dk_187 0 15 (dk_at dksX2_copy_0 0 rfl rfl)
theorem dX2_copy_3 : decode cX2_copy 3 = .ok (.dup, 1) := dk_89 (dk_at dksX2_copy_0 3 rfl rfl)
theorem dX2_copy_4 : decode cX2_copy 4 = .ok (.aload_n 0, 1) := dk_42 (dk_at dksX2_copy_0 4 rfl rfl)
theorem dX2_copy_5 : decode cX2_copy 5 = .ok (.getfield 23, 3) := dk_180 0 23 (dk_at dksX2_copy_0 5 rfl rfl)
theorem dX2_copy_8 : decode cX2_copy 8 = .ok (.invokevirtual 27, 3) := dk_182 0 27 (dk_at dksX2_copy_0 8 rfl rfl)
theorem dX2_copy_11 : decode cX2_copy 11 = .ok (.checkcast 28, 3) := dk_192 0 28 (dk_at dksX2_copy_0 11 rfl rfl)
theorem dX2_copy_14 : decode cX2_copy 14 = .ok (.invokespecial 32, 3) := dk_183 0 32 (dk_at dksX2_copy_0 14 rfl rfl)
theorem dX2_copy_17 : decode cX2_copy 17 = .ok (.astore_n 1, 1) := dk_76 (dk_at dksX2_copy_0 17 rfl rfl)
theorem dX2_copy_18 : decode cX2_copy 18 = .ok (.iconst 0, 1) := dk_3 (dk_at dksX2_copy_0 18 rfl rfl)
theorem dX2_copy_19 : decode cX2_copy 19 = .ok (.istore_n 2, 1) := dk_61 (dk_at dksX2_copy_0 19 rfl rfl)
theorem dX2_copy_20 : decode cX2_copy 20 = .ok (.iload_n 2, 1) := dk_28 (dk_at dksX2_copy_0 20 rfl rfl)
theorem dX2_copy_21 : decode cX2_copy 21 = .ok (.aload_n 0, 1) := dk_42 (dk_at dksX2_copy_0 21 rfl rfl)
theorem dX2_copy_22 : decode cX2_copy 22 = .ok (.getfield 14, 3) := dk_180 0 14 (dk_at dksX2_copy_1 0 rfl rfl)
theorem dX2_copy_25 : decode cX2_copy 25 = .ok (.invokeinterface 35 1, 5) := by decide +kernel
theorem dX2_copy_30 : decode cX2_copy 30 = .ok (.if_icmp .ge 35, 3) := dk_162 0 35 (dk_at dksX2_copy_1 8 rfl rfl)
theorem dX2_copy_33 : decode cX2_copy 33 = .ok (.aload_n 1, 1) := dk_43 (dk_at dksX2_copy_1 11 rfl rfl)
theorem dX2_copy_34 : decode cX2_copy 34 = .ok (.getfield 14, 3) := dk_180 0 14 (dk_at dksX2_copy_1 12 rfl rfl)
theorem dX2_copy_37 : decode cX2_copy 37 = .ok (.aload_n 0, 1) := dk_42 (dk_at dksX2_copy_1 15 rfl rfl)
theorem dX2_copy_38 : decode cX2_copy 38 = .ok (.getfield 14, 3) := dk_180 0 14 (dk_at dksX2_copy_1 16 rfl rfl)
theorem dX2_copy_41 : decode cX2_copy 41 = .ok (.iload_n 2, 1) := dk_28 (dk_at dksX2_copy_1 19 rfl rfl)
theorem dX2_copy_42 : decode cX2_copy 42 = .ok (.invokeinterface 41 2, 5) := by decide +kernel
theorem dX2_copy_47 : decode cX2_copy 47 = .ok (.checkcast 45, 3) := dk_192 0 45 (dk_at dksX2_copy_2 5 rfl rfl)
theorem dX2_copy_50 : decode cX2_copy 50 = .ok (.invokevirtual 47, 3) := dk_182 0 47 (dk_at dksX2_copy_2 8 rfl rfl)
theorem dX2_copy_53 : decode cX2_copy 53 = .ok (.invokeinterface 51 2, 5) := by decide +kernel
theorem dX2_copy_58 : decode cX2_copy 58 = .ok (.pop, 1) := dk_87 (dk_at dksX2_copy_2 16 rfl rfl)
theorem dX2_copy_59 : decode cX2_copy 59 = .ok (.iinc 2 1, 3) := dk_132 2 1 (dk_at dksX2_copy_2 17 rfl rfl)
theorem dX2_copy_62 : decode cX2_copy 62 = .ok (.goto (-42), 3) := dk_167 255 214 (dk_at dksX2_copy_2 20 rfl rfl)
theorem dX2_copy_65 : decode cX2_copy 65 = .ok (.iconst 0, 1) := dk_3 (dk_at dksX2_copy_2 23 rfl rfl)
theorem dX2_copy_66 : decode cX2_copy 66 = .ok (.istore_n 2, 1) := dk_61 (dk_at dksX2_copy_3 0 rfl rfl)
theorem dX2_copy_67 : decode cX2_copy 67 = .ok (.iload_n 2, 1) := dk_28 (dk_at dksX2_copy_3 1 rfl rfl)
theorem dX2_copy_68 : decode cX2_copy 68 = .ok (.aload_n 0, 1) := dk_42 (dk_at dksX2_copy_3 2 rfl rfl)
theorem dX2_copy_69 : decode cX2_copy 69 = .ok (.getfield 20, 3) := dk_180 0 20 (dk_at dksX2_copy_3 3 rfl rfl)
theorem dX2_copy_72 : decode cX2_copy 72 = .ok (.invokeinterface 35 1, 5) := by decide +kernel
theorem dX2_copy_77 : decode cX2_copy 77 = .ok (.if_icmp .ge 32, 3) := dk_162 0 32 (dk_at dksX2_copy_3 11 rfl rfl)
theorem dX2_copy_80 : decode cX2_copy 80 = .ok (.aload_n 1, 1) := dk_43 (dk_at dksX2_copy_3 14 rfl rfl)
theorem dX2_copy_81 : decode cX2_copy 81 = .ok (.getfield 20, 3) := dk_180 0 20 (dk_at dksX2_copy_3 15 rfl rfl)
theorem dX2_copy_84 : decode cX2_copy 84 = .ok (.aload_n 0, 1) := dk_42 (dk_at dksX2_copy_3 18 rfl rfl)
theorem dX2_copy_85 : decode cX2_copy 85 = .ok (.getfield 20, 3) := dk_180 0 20 (dk_at dksX2_copy_3 19 rfl rfl)
theorem dX2_copy_88 : decode cX2_copy 88 = .ok (.iload_n 2, 1) := dk_28 (dk_at dksX2_copy_3 22 rfl rfl)
theorem dX2_copy_89 : decode cX2_copy 89 = .ok (.invokeinterface 41 2, 5) := by decide +kernel
theorem dX2_copy_94 : decode cX2_copy 94 = .ok (.checkcast 55, 3) := dk_192 0 55 (dk_at dksX2_copy_4 5 rfl rfl)
theorem dX2_copy_97 : decode cX2_copy 97 = .ok (.invokeinterface 51 2, 5) := by decide +kernel
theorem dX2_copy_102 : decode cX2_copy 102 = .ok (.pop, 1) := dk_87 (dk_at dksX2_copy_4 13 rfl rfl)
theorem dX2_copy_103 : decode cX2_copy 103 = .ok (.iinc 2 1, 3) := dk_132 2 1 (dk_at dksX2_copy_4 14 rfl rfl)
theorem dX2_copy_106 : decode cX2_copy 106 = .ok (.goto (-39), 3) := dk_167 255 217 (dk_at dksX2_copy_4 17 rfl rfl)
theorem dX2_copy_109 : decode cX2_copy 109 = .ok (.aload_n 1, 1) := dk_43 (dk_at dksX2_copy_4 20 rfl rfl)
theorem dX2_copy_110 : decode cX2_copy 110 = .ok (.aload_n 0, 1) := dk_42 (dk_at dksX2_copy_4 21 rfl rfl)
theorem dX2_copy_111 : decode cX2_copy 111 = .ok (.getfield 57, 3) := dk_180 0 57 (dk_at dksX2_copy_5 0 rfl rfl)
theorem dX2_copy_114 : decode cX2_copy 114 = .ok (.putfield 57, 3) := dk_181 0 57 (dk_at dksX2_copy_5 3 rfl rfl)
theorem dX2_copy_117 : decode cX2_copy 117 = .ok (.aload_n 1, 1) := dk_43 (dk_at dksX2_copy_5 6 rfl rfl)
theorem dX2_copy_118 : decode cX2_copy 118 = .ok (.aload_n 0, 1) := dk_42 (dk_at dksX2_copy_5 7 rfl rfl)
theorem dX2_copy_119 : decode cX2_copy 119 = .ok (.getfield 61, 3) := dk_180 0 61 (dk_at dksX2_copy_5 8 rfl rfl)
theorem dX2_copy_122 : decode cX2_copy 122 = .ok (.putfield 61, 3) := dk_181 0 61 (dk_at dksX2_copy_5 11 rfl rfl)
theorem dX2_copy_125 : decode cX2_copy 125 = .ok (.aload_n 1, 1) := dk_43 (dk_at dksX2_copy_5 14 rfl rfl)
theorem dX2_copy_126 : decode cX2_copy 126 = .ok (.aload_n 0, 1) := dk_42 (dk_at dksX2_copy_5 15 rfl rfl)
theorem dX2_copy_127 : decode cX2_copy 127 = .ok (.getfield 64, 3) := dk_180 0 64 (dk_at dksX2_copy_5 16 rfl rfl)
theorem dX2_copy_130 : decode cX2_copy 130 = .ok (.putfield 64, 3) := dk_181 0 64 (dk_at dksX2_copy_5 19 rfl rfl)
theorem dX2_copy_133 : decode cX2_copy 133 = .ok (.aload_n 1, 1) := dk_43 (dk_at dksX2_copy_5 22 rfl rfl)
theorem dX2_copy_134 : decode cX2_copy 134 = .ok (.aload_n 0, 1) := dk_42 (dk_at dksX2_copy_5 23 rfl rfl)
theorem dX2_copy_135 : decode cX2_copy 135 = .ok (.getfield 67, 3) := dk_180 0 67 (dk_at dksX2_copy_6 0 rfl rfl)
theorem dX2_copy_138 : decode cX2_copy 138 = .ok (.putfield 67, 3) := dk_181 0 67 (dk_at dksX2_copy_6 3 rfl rfl)
theorem dX2_copy_141 : decode cX2_copy 141 = .ok (.aload_n 1, 1) := dk_43 (dk_at dksX2_copy_6 6 rfl rfl)
theorem dX2_copy_142 : decode cX2_copy 142 = .ok (.aload_n 0, 1) := dk_42 (dk_at dksX2_copy_6 7 rfl rfl)
theorem dX2_copy_143 : decode cX2_copy 143 = .ok (.getfield 70, 3) := dk_180 0 70 (dk_at dksX2_copy_6 8 rfl rfl)
theorem dX2_copy_146 : decode cX2_copy 146 = .ok (.putfield 70, 3) := dk_181 0 70 (dk_at dksX2_copy_6 11 rfl rfl)
theorem dX2_copy_149 : decode cX2_copy 149 = .ok (.aload_n 1, 1) := dk_43 (dk_at dksX2_copy_6 14 rfl rfl)
theorem dX2_copy_150 : decode cX2_copy 150 = .ok (.aload_n 0, 1) := dk_42 (dk_at dksX2_copy_6 15 rfl rfl)
theorem dX2_copy_151 : decode cX2_copy 151 = .ok (.getfield 73, 3) := dk_180 0 73 (dk_at dksX2_copy_6 16 rfl rfl)
theorem dX2_copy_154 : decode cX2_copy 154 = .ok (.putfield 73, 3) := dk_181 0 73 (dk_at dksX2_copy_6 19 rfl rfl)
theorem dX2_copy_157 : decode cX2_copy 157 = .ok (.aload_n 1, 1) := dk_43 (dk_at dksX2_copy_6 22 rfl rfl)
theorem dX2_copy_158 : decode cX2_copy 158 = .ok (.areturn, 1) := dk_176 (dk_at dksX2_copy_6 23 rfl rfl)
abbrev cX2_isSafe : ByteArray := prog_25_method_15_code
def yX2_isSafe : MethodName := ⟨RX2, "isSafe", "()Z"⟩
def dkwX2_isSafe_0 : List UInt8 := [187, 0, 108, 89, 42, 2, 183, 0, 110, 182, 0, 113, 172]
abbrev dktX2_isSafe_0 : List UInt8 := dkwX2_isSafe_0 ++ []
theorem dksX2_isSafe_0 : cX2_isSafe.data.toList.drop 0 = dktX2_isSafe_0 := by decide +kernel
theorem dX2_isSafe_0 : decode cX2_isSafe 0 = .ok (.new 108, 3) := dk_187 0 108 (dk_at dksX2_isSafe_0 0 rfl rfl)
theorem dX2_isSafe_3 : decode cX2_isSafe 3 = .ok (.dup, 1) := dk_89 (dk_at dksX2_isSafe_0 3 rfl rfl)
theorem dX2_isSafe_4 : decode cX2_isSafe 4 = .ok (.aload_n 0, 1) := dk_42 (dk_at dksX2_isSafe_0 4 rfl rfl)
theorem dX2_isSafe_5 : decode cX2_isSafe 5 = .ok (.iconst (-1), 1) := dk_2 (dk_at dksX2_isSafe_0 5 rfl rfl)
theorem dX2_isSafe_6 : decode cX2_isSafe 6 = .ok (.invokespecial 110, 3) := dk_183 0 110 (dk_at dksX2_isSafe_0 6 rfl rfl)
theorem dX2_isSafe_9 : decode cX2_isSafe 9 = .ok (.invokevirtual 113, 3) := dk_182 0 113 (dk_at dksX2_isSafe_0 9 rfl rfl)
theorem dX2_isSafe_12 : decode cX2_isSafe 12 = .ok (.ireturn, 1) := dk_172 (dk_at dksX2_isSafe_0 12 rfl rfl)
abbrev cX2_hasKind : ByteArray := prog_25_method_4_code
def yX2_hasKind : MethodName := ⟨RX2, "hasKind", "(I)Z"⟩
def dkwX2_hasKind_0 : List UInt8 := [27, 3, 42, 180, 0, 23, 190, 4, 100, 184, 0, 76, 172]
abbrev dktX2_hasKind_0 : List UInt8 := dkwX2_hasKind_0 ++ []
theorem dksX2_hasKind_0 : cX2_hasKind.data.toList.drop 0 = dktX2_hasKind_0 := by decide +kernel
theorem dX2_hasKind_0 : decode cX2_hasKind 0 = .ok (.iload_n 1, 1) := dk_27 (dk_at dksX2_hasKind_0 0 rfl rfl)
theorem dX2_hasKind_1 : decode cX2_hasKind 1 = .ok (.iconst 0, 1) := dk_3 (dk_at dksX2_hasKind_0 1 rfl rfl)
theorem dX2_hasKind_2 : decode cX2_hasKind 2 = .ok (.aload_n 0, 1) := dk_42 (dk_at dksX2_hasKind_0 2 rfl rfl)
theorem dX2_hasKind_3 : decode cX2_hasKind 3 = .ok (.getfield 23, 3) := dk_180 0 23 (dk_at dksX2_hasKind_0 3 rfl rfl)
theorem dX2_hasKind_6 : decode cX2_hasKind 6 = .ok (.arraylength, 1) := dk_190 (dk_at dksX2_hasKind_0 6 rfl rfl)
theorem dX2_hasKind_7 : decode cX2_hasKind 7 = .ok (.iconst 1, 1) := dk_4 (dk_at dksX2_hasKind_0 7 rfl rfl)
theorem dX2_hasKind_8 : decode cX2_hasKind 8 = .ok (.isub, 1) := dk_100 (dk_at dksX2_hasKind_0 8 rfl rfl)
theorem dX2_hasKind_9 : decode cX2_hasKind 9 = .ok (.invokestatic 76, 3) := dk_184 0 76 (dk_at dksX2_hasKind_0 9 rfl rfl)
theorem dX2_hasKind_12 : decode cX2_hasKind 12 = .ok (.ireturn, 1) := dk_172 (dk_at dksX2_hasKind_0 12 rfl rfl)
abbrev cX2_claimed : ByteArray := prog_25_method_13_code
def yX2_claimed : MethodName := ⟨RX2, "claimed", "(I)I"⟩
def dkwX2_claimed_1 : List UInt8 := [185, 0, 41, 2, 0, 192, 0, 45, 180, 0, 99, 27, 46, 96, 61, 132, 3, 1, 167, 255, 219, 28, 172]
abbrev dktX2_claimed_1 : List UInt8 := dkwX2_claimed_1 ++ []
def dkwX2_claimed_0 : List UInt8 := [3, 61, 3, 62, 29, 42, 180, 0, 14, 185, 0, 35, 1, 0, 162, 0, 30, 28, 42, 180, 0, 14, 29]
abbrev dktX2_claimed_0 : List UInt8 := dkwX2_claimed_0 ++ dktX2_claimed_1
theorem dksX2_claimed_0 : cX2_claimed.data.toList.drop 0 = dktX2_claimed_0 := by decide +kernel
theorem dksX2_claimed_1 : cX2_claimed.data.toList.drop 23 = dktX2_claimed_1 := dk_seg dksX2_claimed_0 23 rfl rfl
theorem dX2_claimed_0 : decode cX2_claimed 0 = .ok (.iconst 0, 1) := dk_3 (dk_at dksX2_claimed_0 0 rfl rfl)
theorem dX2_claimed_1 : decode cX2_claimed 1 = .ok (.istore_n 2, 1) := dk_61 (dk_at dksX2_claimed_0 1 rfl rfl)
theorem dX2_claimed_2 : decode cX2_claimed 2 = .ok (.iconst 0, 1) := dk_3 (dk_at dksX2_claimed_0 2 rfl rfl)
theorem dX2_claimed_3 : decode cX2_claimed 3 = .ok (.istore_n 3, 1) := dk_62 (dk_at dksX2_claimed_0 3 rfl rfl)
theorem dX2_claimed_4 : decode cX2_claimed 4 = .ok (.iload_n 3, 1) := dk_29 (dk_at dksX2_claimed_0 4 rfl rfl)
theorem dX2_claimed_5 : decode cX2_claimed 5 = .ok (.aload_n 0, 1) := dk_42 (dk_at dksX2_claimed_0 5 rfl rfl)
theorem dX2_claimed_6 : decode cX2_claimed 6 = .ok (.getfield 14, 3) := dk_180 0 14 (dk_at dksX2_claimed_0 6 rfl rfl)
theorem dX2_claimed_9 : decode cX2_claimed 9 = .ok (.invokeinterface 35 1, 5) := by decide +kernel
theorem dX2_claimed_14 : decode cX2_claimed 14 = .ok (.if_icmp .ge 30, 3) := dk_162 0 30 (dk_at dksX2_claimed_0 14 rfl rfl)
theorem dX2_claimed_17 : decode cX2_claimed 17 = .ok (.iload_n 2, 1) := dk_28 (dk_at dksX2_claimed_0 17 rfl rfl)
theorem dX2_claimed_18 : decode cX2_claimed 18 = .ok (.aload_n 0, 1) := dk_42 (dk_at dksX2_claimed_0 18 rfl rfl)
theorem dX2_claimed_19 : decode cX2_claimed 19 = .ok (.getfield 14, 3) := dk_180 0 14 (dk_at dksX2_claimed_0 19 rfl rfl)
theorem dX2_claimed_22 : decode cX2_claimed 22 = .ok (.iload_n 3, 1) := dk_29 (dk_at dksX2_claimed_0 22 rfl rfl)
theorem dX2_claimed_23 : decode cX2_claimed 23 = .ok (.invokeinterface 41 2, 5) := by decide +kernel
theorem dX2_claimed_28 : decode cX2_claimed 28 = .ok (.checkcast 45, 3) := dk_192 0 45 (dk_at dksX2_claimed_1 5 rfl rfl)
theorem dX2_claimed_31 : decode cX2_claimed 31 = .ok (.getfield 99, 3) := dk_180 0 99 (dk_at dksX2_claimed_1 8 rfl rfl)
theorem dX2_claimed_34 : decode cX2_claimed 34 = .ok (.iload_n 1, 1) := dk_27 (dk_at dksX2_claimed_1 11 rfl rfl)
theorem dX2_claimed_35 : decode cX2_claimed 35 = .ok (.iaload, 1) := dk_46 (dk_at dksX2_claimed_1 12 rfl rfl)
theorem dX2_claimed_36 : decode cX2_claimed 36 = .ok (.iadd, 1) := dk_96 (dk_at dksX2_claimed_1 13 rfl rfl)
theorem dX2_claimed_37 : decode cX2_claimed 37 = .ok (.istore_n 2, 1) := dk_61 (dk_at dksX2_claimed_1 14 rfl rfl)
theorem dX2_claimed_38 : decode cX2_claimed 38 = .ok (.iinc 3 1, 3) := dk_132 3 1 (dk_at dksX2_claimed_1 15 rfl rfl)
theorem dX2_claimed_41 : decode cX2_claimed 41 = .ok (.goto (-37), 3) := dk_167 255 219 (dk_at dksX2_claimed_1 18 rfl rfl)
theorem dX2_claimed_44 : decode cX2_claimed 44 = .ok (.iload_n 2, 1) := dk_28 (dk_at dksX2_claimed_1 21 rfl rfl)
theorem dX2_claimed_45 : decode cX2_claimed 45 = .ok (.ireturn, 1) := dk_172 (dk_at dksX2_claimed_1 22 rfl rfl)
abbrev cX2_hasOffice : ByteArray := prog_25_method_5_code
def yX2_hasOffice : MethodName := ⟨RX2, "hasOffice", "(I)Z"⟩
def dkwX2_hasOffice_0 : List UInt8 := [27, 3, 42, 180, 0, 14, 185, 0, 35, 1, 0, 4, 100, 184, 0, 76, 172]
abbrev dktX2_hasOffice_0 : List UInt8 := dkwX2_hasOffice_0 ++ []
theorem dksX2_hasOffice_0 : cX2_hasOffice.data.toList.drop 0 = dktX2_hasOffice_0 := by decide +kernel
theorem dX2_hasOffice_0 : decode cX2_hasOffice 0 = .ok (.iload_n 1, 1) := dk_27 (dk_at dksX2_hasOffice_0 0 rfl rfl)
theorem dX2_hasOffice_1 : decode cX2_hasOffice 1 = .ok (.iconst 0, 1) := dk_3 (dk_at dksX2_hasOffice_0 1 rfl rfl)
theorem dX2_hasOffice_2 : decode cX2_hasOffice 2 = .ok (.aload_n 0, 1) := dk_42 (dk_at dksX2_hasOffice_0 2 rfl rfl)
theorem dX2_hasOffice_3 : decode cX2_hasOffice 3 = .ok (.getfield 14, 3) := dk_180 0 14 (dk_at dksX2_hasOffice_0 3 rfl rfl)
theorem dX2_hasOffice_6 : decode cX2_hasOffice 6 = .ok (.invokeinterface 35 1, 5) := by decide +kernel
theorem dX2_hasOffice_11 : decode cX2_hasOffice 11 = .ok (.iconst 1, 1) := dk_4 (dk_at dksX2_hasOffice_0 11 rfl rfl)
theorem dX2_hasOffice_12 : decode cX2_hasOffice 12 = .ok (.isub, 1) := dk_100 (dk_at dksX2_hasOffice_0 12 rfl rfl)
theorem dX2_hasOffice_13 : decode cX2_hasOffice 13 = .ok (.invokestatic 76, 3) := dk_184 0 76 (dk_at dksX2_hasOffice_0 13 rfl rfl)
theorem dX2_hasOffice_16 : decode cX2_hasOffice 16 = .ok (.ireturn, 1) := dk_172 (dk_at dksX2_hasOffice_0 16 rfl rfl)
abbrev cX2_wishOf : ByteArray := prog_25_method_22_code
def yX2_wishOf : MethodName := ⟨RX2, "wishOf", "(I)LPrinterClaims$Wish;"⟩
def dkwX2_wishOf_2 : List UInt8 := [185, 0, 41, 2, 0, 192, 0, 55, 176, 132, 2, 1, 167, 255, 206, 1, 176]
abbrev dktX2_wishOf_2 : List UInt8 := dkwX2_wishOf_2 ++ []
def dkwX2_wishOf_1 : List UInt8 := [185, 0, 41, 2, 0, 192, 0, 55, 182, 0, 137, 27, 160, 0, 17, 42, 180, 0, 20, 28]
abbrev dktX2_wishOf_1 : List UInt8 := dkwX2_wishOf_1 ++ dktX2_wishOf_2
def dkwX2_wishOf_0 : List UInt8 := [3, 61, 28, 42, 180, 0, 20, 185, 0, 35, 1, 0, 162, 0, 43, 42, 180, 0, 20, 28]
abbrev dktX2_wishOf_0 : List UInt8 := dkwX2_wishOf_0 ++ dktX2_wishOf_1
theorem dksX2_wishOf_0 : cX2_wishOf.data.toList.drop 0 = dktX2_wishOf_0 := by decide +kernel
theorem dksX2_wishOf_1 : cX2_wishOf.data.toList.drop 20 = dktX2_wishOf_1 := dk_seg dksX2_wishOf_0 20 rfl rfl
theorem dksX2_wishOf_2 : cX2_wishOf.data.toList.drop 40 = dktX2_wishOf_2 := dk_seg dksX2_wishOf_1 20 rfl rfl
theorem dX2_wishOf_0 : decode cX2_wishOf 0 = .ok (.iconst 0, 1) := dk_3 (dk_at dksX2_wishOf_0 0 rfl rfl)
theorem dX2_wishOf_1 : decode cX2_wishOf 1 = .ok (.istore_n 2, 1) := dk_61 (dk_at dksX2_wishOf_0 1 rfl rfl)
theorem dX2_wishOf_2 : decode cX2_wishOf 2 = .ok (.iload_n 2, 1) := dk_28 (dk_at dksX2_wishOf_0 2 rfl rfl)
theorem dX2_wishOf_3 : decode cX2_wishOf 3 = .ok (.aload_n 0, 1) := dk_42 (dk_at dksX2_wishOf_0 3 rfl rfl)
theorem dX2_wishOf_4 : decode cX2_wishOf 4 = .ok (.getfield 20, 3) := dk_180 0 20 (dk_at dksX2_wishOf_0 4 rfl rfl)
theorem dX2_wishOf_7 : decode cX2_wishOf 7 = .ok (.invokeinterface 35 1, 5) := by decide +kernel
theorem dX2_wishOf_12 : decode cX2_wishOf 12 = .ok (.if_icmp .ge 43, 3) := dk_162 0 43 (dk_at dksX2_wishOf_0 12 rfl rfl)
theorem dX2_wishOf_15 : decode cX2_wishOf 15 = .ok (.aload_n 0, 1) := dk_42 (dk_at dksX2_wishOf_0 15 rfl rfl)
theorem dX2_wishOf_16 : decode cX2_wishOf 16 = .ok (.getfield 20, 3) := dk_180 0 20 (dk_at dksX2_wishOf_0 16 rfl rfl)
theorem dX2_wishOf_19 : decode cX2_wishOf 19 = .ok (.iload_n 2, 1) := dk_28 (dk_at dksX2_wishOf_0 19 rfl rfl)
theorem dX2_wishOf_20 : decode cX2_wishOf 20 = .ok (.invokeinterface 41 2, 5) := by decide +kernel
theorem dX2_wishOf_25 : decode cX2_wishOf 25 = .ok (.checkcast 55, 3) := dk_192 0 55 (dk_at dksX2_wishOf_1 5 rfl rfl)
theorem dX2_wishOf_28 : decode cX2_wishOf 28 = .ok (.invokevirtual 137, 3) := dk_182 0 137 (dk_at dksX2_wishOf_1 8 rfl rfl)
theorem dX2_wishOf_31 : decode cX2_wishOf 31 = .ok (.iload_n 1, 1) := dk_27 (dk_at dksX2_wishOf_1 11 rfl rfl)
theorem dX2_wishOf_32 : decode cX2_wishOf 32 = .ok (.if_icmp .ne 17, 3) := dk_160 0 17 (dk_at dksX2_wishOf_1 12 rfl rfl)
theorem dX2_wishOf_35 : decode cX2_wishOf 35 = .ok (.aload_n 0, 1) := dk_42 (dk_at dksX2_wishOf_1 15 rfl rfl)
theorem dX2_wishOf_36 : decode cX2_wishOf 36 = .ok (.getfield 20, 3) := dk_180 0 20 (dk_at dksX2_wishOf_1 16 rfl rfl)
theorem dX2_wishOf_39 : decode cX2_wishOf 39 = .ok (.iload_n 2, 1) := dk_28 (dk_at dksX2_wishOf_1 19 rfl rfl)
theorem dX2_wishOf_40 : decode cX2_wishOf 40 = .ok (.invokeinterface 41 2, 5) := by decide +kernel
theorem dX2_wishOf_45 : decode cX2_wishOf 45 = .ok (.checkcast 55, 3) := dk_192 0 55 (dk_at dksX2_wishOf_2 5 rfl rfl)
theorem dX2_wishOf_48 : decode cX2_wishOf 48 = .ok (.areturn, 1) := dk_176 (dk_at dksX2_wishOf_2 8 rfl rfl)
theorem dX2_wishOf_49 : decode cX2_wishOf 49 = .ok (.iinc 2 1, 3) := dk_132 2 1 (dk_at dksX2_wishOf_2 9 rfl rfl)
theorem dX2_wishOf_52 : decode cX2_wishOf 52 = .ok (.goto (-50), 3) := dk_167 255 206 (dk_at dksX2_wishOf_2 12 rfl rfl)
theorem dX2_wishOf_55 : decode cX2_wishOf 55 = .ok (.aconst_null, 1) := dk_1 (dk_at dksX2_wishOf_2 15 rfl rfl)
theorem dX2_wishOf_56 : decode cX2_wishOf 56 = .ok (.areturn, 1) := dk_176 (dk_at dksX2_wishOf_2 16 rfl rfl)
abbrev cX2_obstacle : ByteArray := prog_25_method_31_code
def yX2_obstacle : MethodName := ⟨RX2, "obstacle", "(III)I"⟩
def dkwX2_obstacle_2 : List UInt8 := [182, 0, 127, 153, 0, 7, 3, 167, 0, 4, 7, 172]
abbrev dktX2_obstacle_2 : List UInt8 := dkwX2_obstacle_2 ++ []
def dkwX2_obstacle_1 : List UInt8 := [28, 182, 0, 124, 164, 0, 5, 5, 172, 42, 28, 182, 0, 94, 29, 162, 0, 5, 6, 172, 42, 27, 28, 29]
abbrev dktX2_obstacle_1 : List UInt8 := dkwX2_obstacle_1 ++ dktX2_obstacle_2
def dkwX2_obstacle_0 : List UInt8 := [42, 27, 182, 0, 173, 153, 0, 5, 4, 172, 29, 42, 180, 0, 14, 27, 185, 0, 41, 2, 0, 192, 0, 45]
abbrev dktX2_obstacle_0 : List UInt8 := dkwX2_obstacle_0 ++ dktX2_obstacle_1
theorem dksX2_obstacle_0 : cX2_obstacle.data.toList.drop 0 = dktX2_obstacle_0 := by decide +kernel
theorem dksX2_obstacle_1 : cX2_obstacle.data.toList.drop 24 = dktX2_obstacle_1 := dk_seg dksX2_obstacle_0 24 rfl rfl
theorem dksX2_obstacle_2 : cX2_obstacle.data.toList.drop 48 = dktX2_obstacle_2 := dk_seg dksX2_obstacle_1 24 rfl rfl
theorem dX2_obstacle_0 : decode cX2_obstacle 0 = .ok (.aload_n 0, 1) := dk_42 (dk_at dksX2_obstacle_0 0 rfl rfl)
theorem dX2_obstacle_1 : decode cX2_obstacle 1 = .ok (.iload_n 1, 1) := dk_27 (dk_at dksX2_obstacle_0 1 rfl rfl)
theorem dX2_obstacle_2 : decode cX2_obstacle 2 = .ok (.invokevirtual 173, 3) := dk_182 0 173 (dk_at dksX2_obstacle_0 2 rfl rfl)
theorem dX2_obstacle_5 : decode cX2_obstacle 5 = .ok (.ifCond .eq 5, 3) := dk_153 0 5 (dk_at dksX2_obstacle_0 5 rfl rfl)
theorem dX2_obstacle_8 : decode cX2_obstacle 8 = .ok (.iconst 1, 1) := dk_4 (dk_at dksX2_obstacle_0 8 rfl rfl)
theorem dX2_obstacle_9 : decode cX2_obstacle 9 = .ok (.ireturn, 1) := dk_172 (dk_at dksX2_obstacle_0 9 rfl rfl)
theorem dX2_obstacle_10 : decode cX2_obstacle 10 = .ok (.iload_n 3, 1) := dk_29 (dk_at dksX2_obstacle_0 10 rfl rfl)
theorem dX2_obstacle_11 : decode cX2_obstacle 11 = .ok (.aload_n 0, 1) := dk_42 (dk_at dksX2_obstacle_0 11 rfl rfl)
theorem dX2_obstacle_12 : decode cX2_obstacle 12 = .ok (.getfield 14, 3) := dk_180 0 14 (dk_at dksX2_obstacle_0 12 rfl rfl)
theorem dX2_obstacle_15 : decode cX2_obstacle 15 = .ok (.iload_n 1, 1) := dk_27 (dk_at dksX2_obstacle_0 15 rfl rfl)
theorem dX2_obstacle_16 : decode cX2_obstacle 16 = .ok (.invokeinterface 41 2, 5) := by decide +kernel
theorem dX2_obstacle_21 : decode cX2_obstacle 21 = .ok (.checkcast 45, 3) := dk_192 0 45 (dk_at dksX2_obstacle_0 21 rfl rfl)
theorem dX2_obstacle_24 : decode cX2_obstacle 24 = .ok (.iload_n 2, 1) := dk_28 (dk_at dksX2_obstacle_1 0 rfl rfl)
theorem dX2_obstacle_25 : decode cX2_obstacle 25 = .ok (.invokevirtual 124, 3) := dk_182 0 124 (dk_at dksX2_obstacle_1 1 rfl rfl)
theorem dX2_obstacle_28 : decode cX2_obstacle 28 = .ok (.if_icmp .le 5, 3) := dk_164 0 5 (dk_at dksX2_obstacle_1 4 rfl rfl)
theorem dX2_obstacle_31 : decode cX2_obstacle 31 = .ok (.iconst 2, 1) := dk_5 (dk_at dksX2_obstacle_1 7 rfl rfl)
theorem dX2_obstacle_32 : decode cX2_obstacle 32 = .ok (.ireturn, 1) := dk_172 (dk_at dksX2_obstacle_1 8 rfl rfl)
theorem dX2_obstacle_33 : decode cX2_obstacle 33 = .ok (.aload_n 0, 1) := dk_42 (dk_at dksX2_obstacle_1 9 rfl rfl)
theorem dX2_obstacle_34 : decode cX2_obstacle 34 = .ok (.iload_n 2, 1) := dk_28 (dk_at dksX2_obstacle_1 10 rfl rfl)
theorem dX2_obstacle_35 : decode cX2_obstacle 35 = .ok (.invokevirtual 94, 3) := dk_182 0 94 (dk_at dksX2_obstacle_1 11 rfl rfl)
theorem dX2_obstacle_38 : decode cX2_obstacle 38 = .ok (.iload_n 3, 1) := dk_29 (dk_at dksX2_obstacle_1 14 rfl rfl)
theorem dX2_obstacle_39 : decode cX2_obstacle 39 = .ok (.if_icmp .ge 5, 3) := dk_162 0 5 (dk_at dksX2_obstacle_1 15 rfl rfl)
theorem dX2_obstacle_42 : decode cX2_obstacle 42 = .ok (.iconst 3, 1) := dk_6 (dk_at dksX2_obstacle_1 18 rfl rfl)
theorem dX2_obstacle_43 : decode cX2_obstacle 43 = .ok (.ireturn, 1) := dk_172 (dk_at dksX2_obstacle_1 19 rfl rfl)
theorem dX2_obstacle_44 : decode cX2_obstacle 44 = .ok (.aload_n 0, 1) := dk_42 (dk_at dksX2_obstacle_1 20 rfl rfl)
theorem dX2_obstacle_45 : decode cX2_obstacle 45 = .ok (.iload_n 1, 1) := dk_27 (dk_at dksX2_obstacle_1 21 rfl rfl)
theorem dX2_obstacle_46 : decode cX2_obstacle 46 = .ok (.iload_n 2, 1) := dk_28 (dk_at dksX2_obstacle_1 22 rfl rfl)
theorem dX2_obstacle_47 : decode cX2_obstacle 47 = .ok (.iload_n 3, 1) := dk_29 (dk_at dksX2_obstacle_1 23 rfl rfl)
theorem dX2_obstacle_48 : decode cX2_obstacle 48 = .ok (.invokevirtual 127, 3) := dk_182 0 127 (dk_at dksX2_obstacle_2 0 rfl rfl)
theorem dX2_obstacle_51 : decode cX2_obstacle 51 = .ok (.ifCond .eq 7, 3) := dk_153 0 7 (dk_at dksX2_obstacle_2 3 rfl rfl)
theorem dX2_obstacle_54 : decode cX2_obstacle 54 = .ok (.iconst 0, 1) := dk_3 (dk_at dksX2_obstacle_2 6 rfl rfl)
theorem dX2_obstacle_55 : decode cX2_obstacle 55 = .ok (.goto 4, 3) := dk_167 0 4 (dk_at dksX2_obstacle_2 7 rfl rfl)
theorem dX2_obstacle_58 : decode cX2_obstacle 58 = .ok (.iconst 4, 1) := dk_7 (dk_at dksX2_obstacle_2 10 rfl rfl)
theorem dX2_obstacle_59 : decode cX2_obstacle 59 = .ok (.ireturn, 1) := dk_172 (dk_at dksX2_obstacle_2 11 rfl rfl)
abbrev cX2_waits : ByteArray := prog_25_method_23_code
def yX2_waits : MethodName := ⟨RX2, "waits", "(I)Z"⟩
def dkwX2_waits_0 : List UInt8 := [42, 27, 182, 0, 140, 198, 0, 7, 4, 167, 0, 4, 3, 172]
abbrev dktX2_waits_0 : List UInt8 := dkwX2_waits_0 ++ []
theorem dksX2_waits_0 : cX2_waits.data.toList.drop 0 = dktX2_waits_0 := by decide +kernel
theorem dX2_waits_0 : decode cX2_waits 0 = .ok (.aload_n 0, 1) := dk_42 (dk_at dksX2_waits_0 0 rfl rfl)
theorem dX2_waits_1 : decode cX2_waits 1 = .ok (.iload_n 1, 1) := dk_27 (dk_at dksX2_waits_0 1 rfl rfl)
theorem dX2_waits_2 : decode cX2_waits 2 = .ok (.invokevirtual 140, 3) := dk_182 0 140 (dk_at dksX2_waits_0 2 rfl rfl)
theorem dX2_waits_5 : decode cX2_waits 5 = .ok (.ifnull 7, 3) := dk_198 0 7 (dk_at dksX2_waits_0 5 rfl rfl)
theorem dX2_waits_8 : decode cX2_waits 8 = .ok (.iconst 1, 1) := dk_4 (dk_at dksX2_waits_0 8 rfl rfl)
theorem dX2_waits_9 : decode cX2_waits 9 = .ok (.goto 4, 3) := dk_167 0 4 (dk_at dksX2_waits_0 9 rfl rfl)
theorem dX2_waits_12 : decode cX2_waits 12 = .ok (.iconst 0, 1) := dk_3 (dk_at dksX2_waits_0 12 rfl rfl)
theorem dX2_waits_13 : decode cX2_waits 13 = .ok (.ireturn, 1) := dk_172 (dk_at dksX2_waits_0 13 rfl rfl)
abbrev cX2_canGrant : ByteArray := prog_25_method_17_code
def yX2_canGrant : MethodName := ⟨RX2, "canGrant", "(III)Z"⟩
def dkwX2_canGrant_1 : List UInt8 := [42, 27, 28, 29, 116, 182, 0, 117, 21, 4, 172, 58, 5, 42, 27, 28, 29, 116, 182, 0, 117, 25, 5, 191]
abbrev dktX2_canGrant_1 : List UInt8 := dkwX2_canGrant_1 ++ []
def dkwX2_canGrant_0 : List UInt8 := [42, 28, 182, 0, 94, 29, 162, 0, 5, 3, 172, 42, 27, 28, 29, 182, 0, 117, 42, 182, 0, 121, 54, 4]
abbrev dktX2_canGrant_0 : List UInt8 := dkwX2_canGrant_0 ++ dktX2_canGrant_1
theorem dksX2_canGrant_0 : cX2_canGrant.data.toList.drop 0 = dktX2_canGrant_0 := by decide +kernel
theorem dksX2_canGrant_1 : cX2_canGrant.data.toList.drop 24 = dktX2_canGrant_1 := dk_seg dksX2_canGrant_0 24 rfl rfl
theorem dX2_canGrant_0 : decode cX2_canGrant 0 = .ok (.aload_n 0, 1) := dk_42 (dk_at dksX2_canGrant_0 0 rfl rfl)
theorem dX2_canGrant_1 : decode cX2_canGrant 1 = .ok (.iload_n 2, 1) := dk_28 (dk_at dksX2_canGrant_0 1 rfl rfl)
theorem dX2_canGrant_2 : decode cX2_canGrant 2 = .ok (.invokevirtual 94, 3) := dk_182 0 94 (dk_at dksX2_canGrant_0 2 rfl rfl)
theorem dX2_canGrant_5 : decode cX2_canGrant 5 = .ok (.iload_n 3, 1) := dk_29 (dk_at dksX2_canGrant_0 5 rfl rfl)
theorem dX2_canGrant_6 : decode cX2_canGrant 6 = .ok (.if_icmp .ge 5, 3) := dk_162 0 5 (dk_at dksX2_canGrant_0 6 rfl rfl)
theorem dX2_canGrant_9 : decode cX2_canGrant 9 = .ok (.iconst 0, 1) := dk_3 (dk_at dksX2_canGrant_0 9 rfl rfl)
theorem dX2_canGrant_10 : decode cX2_canGrant 10 = .ok (.ireturn, 1) := dk_172 (dk_at dksX2_canGrant_0 10 rfl rfl)
theorem dX2_canGrant_11 : decode cX2_canGrant 11 = .ok (.aload_n 0, 1) := dk_42 (dk_at dksX2_canGrant_0 11 rfl rfl)
theorem dX2_canGrant_12 : decode cX2_canGrant 12 = .ok (.iload_n 1, 1) := dk_27 (dk_at dksX2_canGrant_0 12 rfl rfl)
theorem dX2_canGrant_13 : decode cX2_canGrant 13 = .ok (.iload_n 2, 1) := dk_28 (dk_at dksX2_canGrant_0 13 rfl rfl)
theorem dX2_canGrant_14 : decode cX2_canGrant 14 = .ok (.iload_n 3, 1) := dk_29 (dk_at dksX2_canGrant_0 14 rfl rfl)
theorem dX2_canGrant_15 : decode cX2_canGrant 15 = .ok (.invokevirtual 117, 3) := dk_182 0 117 (dk_at dksX2_canGrant_0 15 rfl rfl)
theorem dX2_canGrant_18 : decode cX2_canGrant 18 = .ok (.aload_n 0, 1) := dk_42 (dk_at dksX2_canGrant_0 18 rfl rfl)
theorem dX2_canGrant_19 : decode cX2_canGrant 19 = .ok (.invokevirtual 121, 3) := dk_182 0 121 (dk_at dksX2_canGrant_0 19 rfl rfl)
theorem dX2_canGrant_22 : decode cX2_canGrant 22 = .ok (.istore 4, 2) := dk_54 4 (dk_at dksX2_canGrant_0 22 rfl rfl)
theorem dX2_canGrant_24 : decode cX2_canGrant 24 = .ok (.aload_n 0, 1) := dk_42 (dk_at dksX2_canGrant_1 0 rfl rfl)
theorem dX2_canGrant_25 : decode cX2_canGrant 25 = .ok (.iload_n 1, 1) := dk_27 (dk_at dksX2_canGrant_1 1 rfl rfl)
theorem dX2_canGrant_26 : decode cX2_canGrant 26 = .ok (.iload_n 2, 1) := dk_28 (dk_at dksX2_canGrant_1 2 rfl rfl)
theorem dX2_canGrant_27 : decode cX2_canGrant 27 = .ok (.iload_n 3, 1) := dk_29 (dk_at dksX2_canGrant_1 3 rfl rfl)
theorem dX2_canGrant_28 : decode cX2_canGrant 28 = .ok (.ineg, 1) := dk_116 (dk_at dksX2_canGrant_1 4 rfl rfl)
theorem dX2_canGrant_29 : decode cX2_canGrant 29 = .ok (.invokevirtual 117, 3) := dk_182 0 117 (dk_at dksX2_canGrant_1 5 rfl rfl)
theorem dX2_canGrant_32 : decode cX2_canGrant 32 = .ok (.iload 4, 2) := dk_21 4 (dk_at dksX2_canGrant_1 8 rfl rfl)
theorem dX2_canGrant_34 : decode cX2_canGrant 34 = .ok (.ireturn, 1) := dk_172 (dk_at dksX2_canGrant_1 10 rfl rfl)
theorem dX2_canGrant_35 : decode cX2_canGrant 35 = .ok (.astore 5, 2) := dk_58 5 (dk_at dksX2_canGrant_1 11 rfl rfl)
theorem dX2_canGrant_37 : decode cX2_canGrant 37 = .ok (.aload_n 0, 1) := dk_42 (dk_at dksX2_canGrant_1 13 rfl rfl)
theorem dX2_canGrant_38 : decode cX2_canGrant 38 = .ok (.iload_n 1, 1) := dk_27 (dk_at dksX2_canGrant_1 14 rfl rfl)
theorem dX2_canGrant_39 : decode cX2_canGrant 39 = .ok (.iload_n 2, 1) := dk_28 (dk_at dksX2_canGrant_1 15 rfl rfl)
theorem dX2_canGrant_40 : decode cX2_canGrant 40 = .ok (.iload_n 3, 1) := dk_29 (dk_at dksX2_canGrant_1 16 rfl rfl)
theorem dX2_canGrant_41 : decode cX2_canGrant 41 = .ok (.ineg, 1) := dk_116 (dk_at dksX2_canGrant_1 17 rfl rfl)
theorem dX2_canGrant_42 : decode cX2_canGrant 42 = .ok (.invokevirtual 117, 3) := dk_182 0 117 (dk_at dksX2_canGrant_1 18 rfl rfl)
theorem dX2_canGrant_45 : decode cX2_canGrant 45 = .ok (.aload 5, 2) := dk_25 5 (dk_at dksX2_canGrant_1 21 rfl rfl)
theorem dX2_canGrant_47 : decode cX2_canGrant 47 = .ok (.athrow, 1) := dk_191 (dk_at dksX2_canGrant_1 23 rfl rfl)
abbrev cX2_move : ByteArray := prog_25_method_16_code
def yX2_move : MethodName := ⟨RX2, "move", "(III)V"⟩
def dkwX2_move_0 : List UInt8 := [42, 180, 0, 14, 27, 185, 0, 41, 2, 0, 192, 0, 45, 180, 0, 87, 28, 92, 46, 29, 96, 79, 177]
abbrev dktX2_move_0 : List UInt8 := dkwX2_move_0 ++ []
theorem dksX2_move_0 : cX2_move.data.toList.drop 0 = dktX2_move_0 := by decide +kernel
theorem dX2_move_0 : decode cX2_move 0 = .ok (.aload_n 0, 1) := dk_42 (dk_at dksX2_move_0 0 rfl rfl)
theorem dX2_move_1 : decode cX2_move 1 = .ok (.getfield 14, 3) := dk_180 0 14 (dk_at dksX2_move_0 1 rfl rfl)
theorem dX2_move_4 : decode cX2_move 4 = .ok (.iload_n 1, 1) := dk_27 (dk_at dksX2_move_0 4 rfl rfl)
theorem dX2_move_5 : decode cX2_move 5 = .ok (.invokeinterface 41 2, 5) := by decide +kernel
theorem dX2_move_10 : decode cX2_move 10 = .ok (.checkcast 45, 3) := dk_192 0 45 (dk_at dksX2_move_0 10 rfl rfl)
theorem dX2_move_13 : decode cX2_move 13 = .ok (.getfield 87, 3) := dk_180 0 87 (dk_at dksX2_move_0 13 rfl rfl)
theorem dX2_move_16 : decode cX2_move 16 = .ok (.iload_n 2, 1) := dk_28 (dk_at dksX2_move_0 16 rfl rfl)
theorem dX2_move_17 : decode cX2_move 17 = .ok (.dup2, 1) := dk_92 (dk_at dksX2_move_0 17 rfl rfl)
theorem dX2_move_18 : decode cX2_move 18 = .ok (.iaload, 1) := dk_46 (dk_at dksX2_move_0 18 rfl rfl)
theorem dX2_move_19 : decode cX2_move 19 = .ok (.iload_n 3, 1) := dk_29 (dk_at dksX2_move_0 19 rfl rfl)
theorem dX2_move_20 : decode cX2_move 20 = .ok (.iadd, 1) := dk_96 (dk_at dksX2_move_0 20 rfl rfl)
theorem dX2_move_21 : decode cX2_move 21 = .ok (.iastore, 1) := dk_79 (dk_at dksX2_move_0 21 rfl rfl)
theorem dX2_move_22 : decode cX2_move 22 = .ok (.return_, 1) := dk_177 (dk_at dksX2_move_0 22 rfl rfl)
abbrev cX2_greatestGrant : ByteArray := prog_25_method_18_code
def yX2_greatestGrant : MethodName := ⟨RX2, "greatestGrant", "(II)I"⟩
def dkwX2_greatestGrant_1 : List UInt8 := [28, 29, 182, 0, 127, 154, 0, 9, 132, 3, 255, 167, 255, 239, 29, 172]
abbrev dktX2_greatestGrant_1 : List UInt8 := dkwX2_greatestGrant_1 ++ []
def dkwX2_greatestGrant_0 : List UInt8 := [42, 180, 0, 14, 27, 185, 0, 41, 2, 0, 192, 0, 45, 28, 182, 0, 124, 62, 29, 158, 0, 19, 42, 27]
abbrev dktX2_greatestGrant_0 : List UInt8 := dkwX2_greatestGrant_0 ++ dktX2_greatestGrant_1
theorem dksX2_greatestGrant_0 : cX2_greatestGrant.data.toList.drop 0 = dktX2_greatestGrant_0 := by decide +kernel
theorem dksX2_greatestGrant_1 : cX2_greatestGrant.data.toList.drop 24 = dktX2_greatestGrant_1 := dk_seg dksX2_greatestGrant_0 24 rfl rfl
theorem dX2_greatestGrant_0 : decode cX2_greatestGrant 0 = .ok (.aload_n 0, 1) := dk_42 (dk_at dksX2_greatestGrant_0 0 rfl rfl)
theorem dX2_greatestGrant_1 : decode cX2_greatestGrant 1 = .ok (.getfield 14, 3) := dk_180 0 14 (dk_at dksX2_greatestGrant_0 1 rfl rfl)
theorem dX2_greatestGrant_4 : decode cX2_greatestGrant 4 = .ok (.iload_n 1, 1) := dk_27 (dk_at dksX2_greatestGrant_0 4 rfl rfl)
theorem dX2_greatestGrant_5 : decode cX2_greatestGrant 5 = .ok (.invokeinterface 41 2, 5) := by decide +kernel
theorem dX2_greatestGrant_10 : decode cX2_greatestGrant 10 = .ok (.checkcast 45, 3) := dk_192 0 45 (dk_at dksX2_greatestGrant_0 10 rfl rfl)
theorem dX2_greatestGrant_13 : decode cX2_greatestGrant 13 = .ok (.iload_n 2, 1) := dk_28 (dk_at dksX2_greatestGrant_0 13 rfl rfl)
theorem dX2_greatestGrant_14 : decode cX2_greatestGrant 14 = .ok (.invokevirtual 124, 3) := dk_182 0 124 (dk_at dksX2_greatestGrant_0 14 rfl rfl)
theorem dX2_greatestGrant_17 : decode cX2_greatestGrant 17 = .ok (.istore_n 3, 1) := dk_62 (dk_at dksX2_greatestGrant_0 17 rfl rfl)
theorem dX2_greatestGrant_18 : decode cX2_greatestGrant 18 = .ok (.iload_n 3, 1) := dk_29 (dk_at dksX2_greatestGrant_0 18 rfl rfl)
theorem dX2_greatestGrant_19 : decode cX2_greatestGrant 19 = .ok (.ifCond .le 19, 3) := dk_158 0 19 (dk_at dksX2_greatestGrant_0 19 rfl rfl)
theorem dX2_greatestGrant_22 : decode cX2_greatestGrant 22 = .ok (.aload_n 0, 1) := dk_42 (dk_at dksX2_greatestGrant_0 22 rfl rfl)
theorem dX2_greatestGrant_23 : decode cX2_greatestGrant 23 = .ok (.iload_n 1, 1) := dk_27 (dk_at dksX2_greatestGrant_0 23 rfl rfl)
theorem dX2_greatestGrant_24 : decode cX2_greatestGrant 24 = .ok (.iload_n 2, 1) := dk_28 (dk_at dksX2_greatestGrant_1 0 rfl rfl)
theorem dX2_greatestGrant_25 : decode cX2_greatestGrant 25 = .ok (.iload_n 3, 1) := dk_29 (dk_at dksX2_greatestGrant_1 1 rfl rfl)
theorem dX2_greatestGrant_26 : decode cX2_greatestGrant 26 = .ok (.invokevirtual 127, 3) := dk_182 0 127 (dk_at dksX2_greatestGrant_1 2 rfl rfl)
theorem dX2_greatestGrant_29 : decode cX2_greatestGrant 29 = .ok (.ifCond .ne 9, 3) := dk_154 0 9 (dk_at dksX2_greatestGrant_1 5 rfl rfl)
theorem dX2_greatestGrant_32 : decode cX2_greatestGrant 32 = .ok (.iinc 3 (-1), 3) := dk_132 3 255 (dk_at dksX2_greatestGrant_1 8 rfl rfl)
theorem dX2_greatestGrant_35 : decode cX2_greatestGrant 35 = .ok (.goto (-17), 3) := dk_167 255 239 (dk_at dksX2_greatestGrant_1 11 rfl rfl)
theorem dX2_greatestGrant_38 : decode cX2_greatestGrant 38 = .ok (.iload_n 3, 1) := dk_29 (dk_at dksX2_greatestGrant_1 14 rfl rfl)
theorem dX2_greatestGrant_39 : decode cX2_greatestGrant 39 = .ok (.ireturn, 1) := dk_172 (dk_at dksX2_greatestGrant_1 15 rfl rfl)
abbrev cX2_spare : ByteArray := prog_25_method_21_code
def yX2_spare : MethodName := ⟨RX2, "spare", "(I)I"⟩
def dkwX2_spare_0 : List UInt8 := [16, 20, 61, 28, 158, 0, 18, 42, 27, 28, 182, 0, 133, 154, 0, 9, 132, 2, 255, 167, 255, 240, 28, 172]
abbrev dktX2_spare_0 : List UInt8 := dkwX2_spare_0 ++ []
theorem dksX2_spare_0 : cX2_spare.data.toList.drop 0 = dktX2_spare_0 := by decide +kernel
theorem dX2_spare_0 : decode cX2_spare 0 = .ok (.bipush 20, 2) := dk_16 20 (dk_at dksX2_spare_0 0 rfl rfl)
theorem dX2_spare_2 : decode cX2_spare 2 = .ok (.istore_n 2, 1) := dk_61 (dk_at dksX2_spare_0 2 rfl rfl)
theorem dX2_spare_3 : decode cX2_spare 3 = .ok (.iload_n 2, 1) := dk_28 (dk_at dksX2_spare_0 3 rfl rfl)
theorem dX2_spare_4 : decode cX2_spare 4 = .ok (.ifCond .le 18, 3) := dk_158 0 18 (dk_at dksX2_spare_0 4 rfl rfl)
theorem dX2_spare_7 : decode cX2_spare 7 = .ok (.aload_n 0, 1) := dk_42 (dk_at dksX2_spare_0 7 rfl rfl)
theorem dX2_spare_8 : decode cX2_spare 8 = .ok (.iload_n 1, 1) := dk_27 (dk_at dksX2_spare_0 8 rfl rfl)
theorem dX2_spare_9 : decode cX2_spare 9 = .ok (.iload_n 2, 1) := dk_28 (dk_at dksX2_spare_0 9 rfl rfl)
theorem dX2_spare_10 : decode cX2_spare 10 = .ok (.invokevirtual 133, 3) := dk_182 0 133 (dk_at dksX2_spare_0 10 rfl rfl)
theorem dX2_spare_13 : decode cX2_spare 13 = .ok (.ifCond .ne 9, 3) := dk_154 0 9 (dk_at dksX2_spare_0 13 rfl rfl)
theorem dX2_spare_16 : decode cX2_spare 16 = .ok (.iinc 2 (-1), 3) := dk_132 2 255 (dk_at dksX2_spare_0 16 rfl rfl)
theorem dX2_spare_19 : decode cX2_spare 19 = .ok (.goto (-16), 3) := dk_167 255 240 (dk_at dksX2_spare_0 19 rfl rfl)
theorem dX2_spare_22 : decode cX2_spare 22 = .ok (.iload_n 2, 1) := dk_28 (dk_at dksX2_spare_0 22 rfl rfl)
theorem dX2_spare_23 : decode cX2_spare 23 = .ok (.ireturn, 1) := dk_172 (dk_at dksX2_spare_0 23 rfl rfl)
abbrev cX2_canRetire : ByteArray := prog_25_method_19_code
def yX2_canRetire : MethodName := ⟨RX2, "canRetire", "(II)Z"⟩
def dkwX2_canRetire_2 : List UInt8 := [27, 92, 46, 28, 96, 79, 29, 172, 58, 4, 42, 180, 0, 23, 27, 92, 46, 28, 96, 79, 25, 4, 191]
abbrev dktX2_canRetire_2 : List UInt8 := dkwX2_canRetire_2 ++ []
def dkwX2_canRetire_1 : List UInt8 := [162, 0, 5, 3, 172, 42, 180, 0, 23, 27, 92, 46, 28, 100, 79, 42, 182, 0, 121, 62, 42, 180, 0, 23]
abbrev dktX2_canRetire_1 : List UInt8 := dkwX2_canRetire_1 ++ dktX2_canRetire_2
def dkwX2_canRetire_0 : List UInt8 := [42, 27, 182, 0, 94, 28, 161, 0, 19, 42, 180, 0, 23, 27, 46, 28, 100, 42, 27, 182, 0, 130]
abbrev dktX2_canRetire_0 : List UInt8 := dkwX2_canRetire_0 ++ dktX2_canRetire_1
theorem dksX2_canRetire_0 : cX2_canRetire.data.toList.drop 0 = dktX2_canRetire_0 := by decide +kernel
theorem dksX2_canRetire_1 : cX2_canRetire.data.toList.drop 22 = dktX2_canRetire_1 := dk_seg dksX2_canRetire_0 22 rfl rfl
theorem dksX2_canRetire_2 : cX2_canRetire.data.toList.drop 46 = dktX2_canRetire_2 := dk_seg dksX2_canRetire_1 24 rfl rfl
theorem dX2_canRetire_0 : decode cX2_canRetire 0 = .ok (.aload_n 0, 1) := dk_42 (dk_at dksX2_canRetire_0 0 rfl rfl)
theorem dX2_canRetire_1 : decode cX2_canRetire 1 = .ok (.iload_n 1, 1) := dk_27 (dk_at dksX2_canRetire_0 1 rfl rfl)
theorem dX2_canRetire_2 : decode cX2_canRetire 2 = .ok (.invokevirtual 94, 3) := dk_182 0 94 (dk_at dksX2_canRetire_0 2 rfl rfl)
theorem dX2_canRetire_5 : decode cX2_canRetire 5 = .ok (.iload_n 2, 1) := dk_28 (dk_at dksX2_canRetire_0 5 rfl rfl)
theorem dX2_canRetire_6 : decode cX2_canRetire 6 = .ok (.if_icmp .lt 19, 3) := dk_161 0 19 (dk_at dksX2_canRetire_0 6 rfl rfl)
theorem dX2_canRetire_9 : decode cX2_canRetire 9 = .ok (.aload_n 0, 1) := dk_42 (dk_at dksX2_canRetire_0 9 rfl rfl)
theorem dX2_canRetire_10 : decode cX2_canRetire 10 = .ok (.getfield 23, 3) := dk_180 0 23 (dk_at dksX2_canRetire_0 10 rfl rfl)
theorem dX2_canRetire_13 : decode cX2_canRetire 13 = .ok (.iload_n 1, 1) := dk_27 (dk_at dksX2_canRetire_0 13 rfl rfl)
theorem dX2_canRetire_14 : decode cX2_canRetire 14 = .ok (.iaload, 1) := dk_46 (dk_at dksX2_canRetire_0 14 rfl rfl)
theorem dX2_canRetire_15 : decode cX2_canRetire 15 = .ok (.iload_n 2, 1) := dk_28 (dk_at dksX2_canRetire_0 15 rfl rfl)
theorem dX2_canRetire_16 : decode cX2_canRetire 16 = .ok (.isub, 1) := dk_100 (dk_at dksX2_canRetire_0 16 rfl rfl)
theorem dX2_canRetire_17 : decode cX2_canRetire 17 = .ok (.aload_n 0, 1) := dk_42 (dk_at dksX2_canRetire_0 17 rfl rfl)
theorem dX2_canRetire_18 : decode cX2_canRetire 18 = .ok (.iload_n 1, 1) := dk_27 (dk_at dksX2_canRetire_0 18 rfl rfl)
theorem dX2_canRetire_19 : decode cX2_canRetire 19 = .ok (.invokevirtual 130, 3) := dk_182 0 130 (dk_at dksX2_canRetire_0 19 rfl rfl)
theorem dX2_canRetire_22 : decode cX2_canRetire 22 = .ok (.if_icmp .ge 5, 3) := dk_162 0 5 (dk_at dksX2_canRetire_1 0 rfl rfl)
theorem dX2_canRetire_25 : decode cX2_canRetire 25 = .ok (.iconst 0, 1) := dk_3 (dk_at dksX2_canRetire_1 3 rfl rfl)
theorem dX2_canRetire_26 : decode cX2_canRetire 26 = .ok (.ireturn, 1) := dk_172 (dk_at dksX2_canRetire_1 4 rfl rfl)
theorem dX2_canRetire_27 : decode cX2_canRetire 27 = .ok (.aload_n 0, 1) := dk_42 (dk_at dksX2_canRetire_1 5 rfl rfl)
theorem dX2_canRetire_28 : decode cX2_canRetire 28 = .ok (.getfield 23, 3) := dk_180 0 23 (dk_at dksX2_canRetire_1 6 rfl rfl)
theorem dX2_canRetire_31 : decode cX2_canRetire 31 = .ok (.iload_n 1, 1) := dk_27 (dk_at dksX2_canRetire_1 9 rfl rfl)
theorem dX2_canRetire_32 : decode cX2_canRetire 32 = .ok (.dup2, 1) := dk_92 (dk_at dksX2_canRetire_1 10 rfl rfl)
theorem dX2_canRetire_33 : decode cX2_canRetire 33 = .ok (.iaload, 1) := dk_46 (dk_at dksX2_canRetire_1 11 rfl rfl)
theorem dX2_canRetire_34 : decode cX2_canRetire 34 = .ok (.iload_n 2, 1) := dk_28 (dk_at dksX2_canRetire_1 12 rfl rfl)
theorem dX2_canRetire_35 : decode cX2_canRetire 35 = .ok (.isub, 1) := dk_100 (dk_at dksX2_canRetire_1 13 rfl rfl)
theorem dX2_canRetire_36 : decode cX2_canRetire 36 = .ok (.iastore, 1) := dk_79 (dk_at dksX2_canRetire_1 14 rfl rfl)
theorem dX2_canRetire_37 : decode cX2_canRetire 37 = .ok (.aload_n 0, 1) := dk_42 (dk_at dksX2_canRetire_1 15 rfl rfl)
theorem dX2_canRetire_38 : decode cX2_canRetire 38 = .ok (.invokevirtual 121, 3) := dk_182 0 121 (dk_at dksX2_canRetire_1 16 rfl rfl)
theorem dX2_canRetire_41 : decode cX2_canRetire 41 = .ok (.istore_n 3, 1) := dk_62 (dk_at dksX2_canRetire_1 19 rfl rfl)
theorem dX2_canRetire_42 : decode cX2_canRetire 42 = .ok (.aload_n 0, 1) := dk_42 (dk_at dksX2_canRetire_1 20 rfl rfl)
theorem dX2_canRetire_43 : decode cX2_canRetire 43 = .ok (.getfield 23, 3) := dk_180 0 23 (dk_at dksX2_canRetire_1 21 rfl rfl)
theorem dX2_canRetire_46 : decode cX2_canRetire 46 = .ok (.iload_n 1, 1) := dk_27 (dk_at dksX2_canRetire_2 0 rfl rfl)
theorem dX2_canRetire_47 : decode cX2_canRetire 47 = .ok (.dup2, 1) := dk_92 (dk_at dksX2_canRetire_2 1 rfl rfl)
theorem dX2_canRetire_48 : decode cX2_canRetire 48 = .ok (.iaload, 1) := dk_46 (dk_at dksX2_canRetire_2 2 rfl rfl)
theorem dX2_canRetire_49 : decode cX2_canRetire 49 = .ok (.iload_n 2, 1) := dk_28 (dk_at dksX2_canRetire_2 3 rfl rfl)
theorem dX2_canRetire_50 : decode cX2_canRetire 50 = .ok (.iadd, 1) := dk_96 (dk_at dksX2_canRetire_2 4 rfl rfl)
theorem dX2_canRetire_51 : decode cX2_canRetire 51 = .ok (.iastore, 1) := dk_79 (dk_at dksX2_canRetire_2 5 rfl rfl)
theorem dX2_canRetire_52 : decode cX2_canRetire 52 = .ok (.iload_n 3, 1) := dk_29 (dk_at dksX2_canRetire_2 6 rfl rfl)
theorem dX2_canRetire_53 : decode cX2_canRetire 53 = .ok (.ireturn, 1) := dk_172 (dk_at dksX2_canRetire_2 7 rfl rfl)
theorem dX2_canRetire_54 : decode cX2_canRetire 54 = .ok (.astore 4, 2) := dk_58 4 (dk_at dksX2_canRetire_2 8 rfl rfl)
theorem dX2_canRetire_56 : decode cX2_canRetire 56 = .ok (.aload_n 0, 1) := dk_42 (dk_at dksX2_canRetire_2 10 rfl rfl)
theorem dX2_canRetire_57 : decode cX2_canRetire 57 = .ok (.getfield 23, 3) := dk_180 0 23 (dk_at dksX2_canRetire_2 11 rfl rfl)
theorem dX2_canRetire_60 : decode cX2_canRetire 60 = .ok (.iload_n 1, 1) := dk_27 (dk_at dksX2_canRetire_2 14 rfl rfl)
theorem dX2_canRetire_61 : decode cX2_canRetire 61 = .ok (.dup2, 1) := dk_92 (dk_at dksX2_canRetire_2 15 rfl rfl)
theorem dX2_canRetire_62 : decode cX2_canRetire 62 = .ok (.iaload, 1) := dk_46 (dk_at dksX2_canRetire_2 16 rfl rfl)
theorem dX2_canRetire_63 : decode cX2_canRetire 63 = .ok (.iload_n 2, 1) := dk_28 (dk_at dksX2_canRetire_2 17 rfl rfl)
theorem dX2_canRetire_64 : decode cX2_canRetire 64 = .ok (.iadd, 1) := dk_96 (dk_at dksX2_canRetire_2 18 rfl rfl)
theorem dX2_canRetire_65 : decode cX2_canRetire 65 = .ok (.iastore, 1) := dk_79 (dk_at dksX2_canRetire_2 19 rfl rfl)
theorem dX2_canRetire_66 : decode cX2_canRetire 66 = .ok (.aload 4, 2) := dk_25 4 (dk_at dksX2_canRetire_2 20 rfl rfl)
theorem dX2_canRetire_68 : decode cX2_canRetire 68 = .ok (.athrow, 1) := dk_191 (dk_at dksX2_canRetire_2 22 rfl rfl)
abbrev cX2_greatestClaim : ByteArray := prog_25_method_14_code
def yX2_greatestClaim : MethodName := ⟨RX2, "greatestClaim", "(I)I"⟩
def dkwX2_greatestClaim_2 : List UInt8 := [172]
abbrev dktX2_greatestClaim_2 : List UInt8 := dkwX2_greatestClaim_2 ++ []
def dkwX2_greatestClaim_1 : List UInt8 := [185, 0, 41, 2, 0, 192, 0, 45, 180, 0, 99, 27, 46, 184, 0, 102, 61, 132, 3, 1, 167, 255, 217, 28]
abbrev dktX2_greatestClaim_1 : List UInt8 := dkwX2_greatestClaim_1 ++ dktX2_greatestClaim_2
def dkwX2_greatestClaim_0 : List UInt8 := [3, 61, 3, 62, 29, 42, 180, 0, 14, 185, 0, 35, 1, 0, 162, 0, 32, 28, 42, 180, 0, 14, 29]
abbrev dktX2_greatestClaim_0 : List UInt8 := dkwX2_greatestClaim_0 ++ dktX2_greatestClaim_1
theorem dksX2_greatestClaim_0 : cX2_greatestClaim.data.toList.drop 0 = dktX2_greatestClaim_0 := by decide +kernel
theorem dksX2_greatestClaim_1 : cX2_greatestClaim.data.toList.drop 23 = dktX2_greatestClaim_1 := dk_seg dksX2_greatestClaim_0 23 rfl rfl
theorem dksX2_greatestClaim_2 : cX2_greatestClaim.data.toList.drop 47 = dktX2_greatestClaim_2 := dk_seg dksX2_greatestClaim_1 24 rfl rfl
theorem dX2_greatestClaim_0 : decode cX2_greatestClaim 0 = .ok (.iconst 0, 1) := dk_3 (dk_at dksX2_greatestClaim_0 0 rfl rfl)
theorem dX2_greatestClaim_1 : decode cX2_greatestClaim 1 = .ok (.istore_n 2, 1) := dk_61 (dk_at dksX2_greatestClaim_0 1 rfl rfl)
theorem dX2_greatestClaim_2 : decode cX2_greatestClaim 2 = .ok (.iconst 0, 1) := dk_3 (dk_at dksX2_greatestClaim_0 2 rfl rfl)
theorem dX2_greatestClaim_3 : decode cX2_greatestClaim 3 = .ok (.istore_n 3, 1) := dk_62 (dk_at dksX2_greatestClaim_0 3 rfl rfl)
theorem dX2_greatestClaim_4 : decode cX2_greatestClaim 4 = .ok (.iload_n 3, 1) := dk_29 (dk_at dksX2_greatestClaim_0 4 rfl rfl)
theorem dX2_greatestClaim_5 : decode cX2_greatestClaim 5 = .ok (.aload_n 0, 1) := dk_42 (dk_at dksX2_greatestClaim_0 5 rfl rfl)
theorem dX2_greatestClaim_6 : decode cX2_greatestClaim 6 = .ok (.getfield 14, 3) := dk_180 0 14 (dk_at dksX2_greatestClaim_0 6 rfl rfl)
theorem dX2_greatestClaim_9 : decode cX2_greatestClaim 9 = .ok (.invokeinterface 35 1, 5) := by decide +kernel
theorem dX2_greatestClaim_14 : decode cX2_greatestClaim 14 = .ok (.if_icmp .ge 32, 3) := dk_162 0 32 (dk_at dksX2_greatestClaim_0 14 rfl rfl)
theorem dX2_greatestClaim_17 : decode cX2_greatestClaim 17 = .ok (.iload_n 2, 1) := dk_28 (dk_at dksX2_greatestClaim_0 17 rfl rfl)
theorem dX2_greatestClaim_18 : decode cX2_greatestClaim 18 = .ok (.aload_n 0, 1) := dk_42 (dk_at dksX2_greatestClaim_0 18 rfl rfl)
theorem dX2_greatestClaim_19 : decode cX2_greatestClaim 19 = .ok (.getfield 14, 3) := dk_180 0 14 (dk_at dksX2_greatestClaim_0 19 rfl rfl)
theorem dX2_greatestClaim_22 : decode cX2_greatestClaim 22 = .ok (.iload_n 3, 1) := dk_29 (dk_at dksX2_greatestClaim_0 22 rfl rfl)
theorem dX2_greatestClaim_23 : decode cX2_greatestClaim 23 = .ok (.invokeinterface 41 2, 5) := by decide +kernel
theorem dX2_greatestClaim_28 : decode cX2_greatestClaim 28 = .ok (.checkcast 45, 3) := dk_192 0 45 (dk_at dksX2_greatestClaim_1 5 rfl rfl)
theorem dX2_greatestClaim_31 : decode cX2_greatestClaim 31 = .ok (.getfield 99, 3) := dk_180 0 99 (dk_at dksX2_greatestClaim_1 8 rfl rfl)
theorem dX2_greatestClaim_34 : decode cX2_greatestClaim 34 = .ok (.iload_n 1, 1) := dk_27 (dk_at dksX2_greatestClaim_1 11 rfl rfl)
theorem dX2_greatestClaim_35 : decode cX2_greatestClaim 35 = .ok (.iaload, 1) := dk_46 (dk_at dksX2_greatestClaim_1 12 rfl rfl)
theorem dX2_greatestClaim_36 : decode cX2_greatestClaim 36 = .ok (.invokestatic 102, 3) := dk_184 0 102 (dk_at dksX2_greatestClaim_1 13 rfl rfl)
theorem dX2_greatestClaim_39 : decode cX2_greatestClaim 39 = .ok (.istore_n 2, 1) := dk_61 (dk_at dksX2_greatestClaim_1 16 rfl rfl)
theorem dX2_greatestClaim_40 : decode cX2_greatestClaim 40 = .ok (.iinc 3 1, 3) := dk_132 3 1 (dk_at dksX2_greatestClaim_1 17 rfl rfl)
theorem dX2_greatestClaim_43 : decode cX2_greatestClaim 43 = .ok (.goto (-39), 3) := dk_167 255 217 (dk_at dksX2_greatestClaim_1 20 rfl rfl)
theorem dX2_greatestClaim_46 : decode cX2_greatestClaim 46 = .ok (.iload_n 2, 1) := dk_28 (dk_at dksX2_greatestClaim_1 23 rfl rfl)
theorem dX2_greatestClaim_47 : decode cX2_greatestClaim 47 = .ok (.ireturn, 1) := dk_172 (dk_at dksX2_greatestClaim_2 0 rfl rfl)
abbrev cX2_finish : ByteArray := prog_25_method_30_code
def yX2_finish : MethodName := ⟨RX2, "finish", "(I)I"⟩
def dkwX2_finish_2 : List UInt8 := [182, 0, 170, 172]
abbrev dktX2_finish_2 : List UInt8 := dkwX2_finish_2 ++ []
def dkwX2_finish_1 : List UInt8 := [185, 0, 41, 2, 0, 192, 0, 45, 180, 0, 87, 28, 46, 182, 0, 167, 132, 2, 1, 167, 255, 220, 42]
abbrev dktX2_finish_1 : List UInt8 := dkwX2_finish_1 ++ dktX2_finish_2
def dkwX2_finish_0 : List UInt8 := [42, 27, 182, 0, 161, 3, 61, 28, 42, 180, 0, 23, 190, 162, 0, 33, 42, 27, 28, 42, 180, 0, 14, 27]
abbrev dktX2_finish_0 : List UInt8 := dkwX2_finish_0 ++ dktX2_finish_1
theorem dksX2_finish_0 : cX2_finish.data.toList.drop 0 = dktX2_finish_0 := by decide +kernel
theorem dksX2_finish_1 : cX2_finish.data.toList.drop 24 = dktX2_finish_1 := dk_seg dksX2_finish_0 24 rfl rfl
theorem dksX2_finish_2 : cX2_finish.data.toList.drop 47 = dktX2_finish_2 := dk_seg dksX2_finish_1 23 rfl rfl
theorem dX2_finish_0 : decode cX2_finish 0 = .ok (.aload_n 0, 1) := dk_42 (dk_at dksX2_finish_0 0 rfl rfl)
theorem dX2_finish_1 : decode cX2_finish 1 = .ok (.iload_n 1, 1) := dk_27 (dk_at dksX2_finish_0 1 rfl rfl)
theorem dX2_finish_2 : decode cX2_finish 2 = .ok (.invokevirtual 161, 3) := dk_182 0 161 (dk_at dksX2_finish_0 2 rfl rfl)
theorem dX2_finish_5 : decode cX2_finish 5 = .ok (.iconst 0, 1) := dk_3 (dk_at dksX2_finish_0 5 rfl rfl)
theorem dX2_finish_6 : decode cX2_finish 6 = .ok (.istore_n 2, 1) := dk_61 (dk_at dksX2_finish_0 6 rfl rfl)
theorem dX2_finish_7 : decode cX2_finish 7 = .ok (.iload_n 2, 1) := dk_28 (dk_at dksX2_finish_0 7 rfl rfl)
theorem dX2_finish_8 : decode cX2_finish 8 = .ok (.aload_n 0, 1) := dk_42 (dk_at dksX2_finish_0 8 rfl rfl)
theorem dX2_finish_9 : decode cX2_finish 9 = .ok (.getfield 23, 3) := dk_180 0 23 (dk_at dksX2_finish_0 9 rfl rfl)
theorem dX2_finish_12 : decode cX2_finish 12 = .ok (.arraylength, 1) := dk_190 (dk_at dksX2_finish_0 12 rfl rfl)
theorem dX2_finish_13 : decode cX2_finish 13 = .ok (.if_icmp .ge 33, 3) := dk_162 0 33 (dk_at dksX2_finish_0 13 rfl rfl)
theorem dX2_finish_16 : decode cX2_finish 16 = .ok (.aload_n 0, 1) := dk_42 (dk_at dksX2_finish_0 16 rfl rfl)
theorem dX2_finish_17 : decode cX2_finish 17 = .ok (.iload_n 1, 1) := dk_27 (dk_at dksX2_finish_0 17 rfl rfl)
theorem dX2_finish_18 : decode cX2_finish 18 = .ok (.iload_n 2, 1) := dk_28 (dk_at dksX2_finish_0 18 rfl rfl)
theorem dX2_finish_19 : decode cX2_finish 19 = .ok (.aload_n 0, 1) := dk_42 (dk_at dksX2_finish_0 19 rfl rfl)
theorem dX2_finish_20 : decode cX2_finish 20 = .ok (.getfield 14, 3) := dk_180 0 14 (dk_at dksX2_finish_0 20 rfl rfl)
theorem dX2_finish_23 : decode cX2_finish 23 = .ok (.iload_n 1, 1) := dk_27 (dk_at dksX2_finish_0 23 rfl rfl)
theorem dX2_finish_24 : decode cX2_finish 24 = .ok (.invokeinterface 41 2, 5) := by decide +kernel
theorem dX2_finish_29 : decode cX2_finish 29 = .ok (.checkcast 45, 3) := dk_192 0 45 (dk_at dksX2_finish_1 5 rfl rfl)
theorem dX2_finish_32 : decode cX2_finish 32 = .ok (.getfield 87, 3) := dk_180 0 87 (dk_at dksX2_finish_1 8 rfl rfl)
theorem dX2_finish_35 : decode cX2_finish 35 = .ok (.iload_n 2, 1) := dk_28 (dk_at dksX2_finish_1 11 rfl rfl)
theorem dX2_finish_36 : decode cX2_finish 36 = .ok (.iaload, 1) := dk_46 (dk_at dksX2_finish_1 12 rfl rfl)
theorem dX2_finish_37 : decode cX2_finish 37 = .ok (.invokevirtual 167, 3) := dk_182 0 167 (dk_at dksX2_finish_1 13 rfl rfl)
theorem dX2_finish_40 : decode cX2_finish 40 = .ok (.iinc 2 1, 3) := dk_132 2 1 (dk_at dksX2_finish_1 16 rfl rfl)
theorem dX2_finish_43 : decode cX2_finish 43 = .ok (.goto (-36), 3) := dk_167 255 220 (dk_at dksX2_finish_1 19 rfl rfl)
theorem dX2_finish_46 : decode cX2_finish 46 = .ok (.aload_n 0, 1) := dk_42 (dk_at dksX2_finish_1 22 rfl rfl)
theorem dX2_finish_47 : decode cX2_finish 47 = .ok (.invokevirtual 170, 3) := dk_182 0 170 (dk_at dksX2_finish_2 0 rfl rfl)
theorem dX2_finish_50 : decode cX2_finish 50 = .ok (.ireturn, 1) := dk_172 (dk_at dksX2_finish_2 3 rfl rfl)
abbrev cX2_drop : ByteArray := prog_25_method_24_code
def yX2_drop : MethodName := ⟨RX2, "drop", "(I)V"⟩
def dkwX2_drop_2 : List UInt8 := [185, 0, 144, 2, 0, 192, 0, 55, 78, 177, 132, 2, 1, 167, 255, 205, 177]
abbrev dktX2_drop_2 : List UInt8 := dkwX2_drop_2 ++ []
def dkwX2_drop_1 : List UInt8 := [185, 0, 41, 2, 0, 192, 0, 55, 182, 0, 137, 27, 160, 0, 18, 42, 180, 0, 20, 28]
abbrev dktX2_drop_1 : List UInt8 := dkwX2_drop_1 ++ dktX2_drop_2
def dkwX2_drop_0 : List UInt8 := [3, 61, 28, 42, 180, 0, 20, 185, 0, 35, 1, 0, 162, 0, 44, 42, 180, 0, 20, 28]
abbrev dktX2_drop_0 : List UInt8 := dkwX2_drop_0 ++ dktX2_drop_1
theorem dksX2_drop_0 : cX2_drop.data.toList.drop 0 = dktX2_drop_0 := by decide +kernel
theorem dksX2_drop_1 : cX2_drop.data.toList.drop 20 = dktX2_drop_1 := dk_seg dksX2_drop_0 20 rfl rfl
theorem dksX2_drop_2 : cX2_drop.data.toList.drop 40 = dktX2_drop_2 := dk_seg dksX2_drop_1 20 rfl rfl
theorem dX2_drop_0 : decode cX2_drop 0 = .ok (.iconst 0, 1) := dk_3 (dk_at dksX2_drop_0 0 rfl rfl)
theorem dX2_drop_1 : decode cX2_drop 1 = .ok (.istore_n 2, 1) := dk_61 (dk_at dksX2_drop_0 1 rfl rfl)
theorem dX2_drop_2 : decode cX2_drop 2 = .ok (.iload_n 2, 1) := dk_28 (dk_at dksX2_drop_0 2 rfl rfl)
theorem dX2_drop_3 : decode cX2_drop 3 = .ok (.aload_n 0, 1) := dk_42 (dk_at dksX2_drop_0 3 rfl rfl)
theorem dX2_drop_4 : decode cX2_drop 4 = .ok (.getfield 20, 3) := dk_180 0 20 (dk_at dksX2_drop_0 4 rfl rfl)
theorem dX2_drop_7 : decode cX2_drop 7 = .ok (.invokeinterface 35 1, 5) := by decide +kernel
theorem dX2_drop_12 : decode cX2_drop 12 = .ok (.if_icmp .ge 44, 3) := dk_162 0 44 (dk_at dksX2_drop_0 12 rfl rfl)
theorem dX2_drop_15 : decode cX2_drop 15 = .ok (.aload_n 0, 1) := dk_42 (dk_at dksX2_drop_0 15 rfl rfl)
theorem dX2_drop_16 : decode cX2_drop 16 = .ok (.getfield 20, 3) := dk_180 0 20 (dk_at dksX2_drop_0 16 rfl rfl)
theorem dX2_drop_19 : decode cX2_drop 19 = .ok (.iload_n 2, 1) := dk_28 (dk_at dksX2_drop_0 19 rfl rfl)
theorem dX2_drop_20 : decode cX2_drop 20 = .ok (.invokeinterface 41 2, 5) := by decide +kernel
theorem dX2_drop_25 : decode cX2_drop 25 = .ok (.checkcast 55, 3) := dk_192 0 55 (dk_at dksX2_drop_1 5 rfl rfl)
theorem dX2_drop_28 : decode cX2_drop 28 = .ok (.invokevirtual 137, 3) := dk_182 0 137 (dk_at dksX2_drop_1 8 rfl rfl)
theorem dX2_drop_31 : decode cX2_drop 31 = .ok (.iload_n 1, 1) := dk_27 (dk_at dksX2_drop_1 11 rfl rfl)
theorem dX2_drop_32 : decode cX2_drop 32 = .ok (.if_icmp .ne 18, 3) := dk_160 0 18 (dk_at dksX2_drop_1 12 rfl rfl)
theorem dX2_drop_35 : decode cX2_drop 35 = .ok (.aload_n 0, 1) := dk_42 (dk_at dksX2_drop_1 15 rfl rfl)
theorem dX2_drop_36 : decode cX2_drop 36 = .ok (.getfield 20, 3) := dk_180 0 20 (dk_at dksX2_drop_1 16 rfl rfl)
theorem dX2_drop_39 : decode cX2_drop 39 = .ok (.iload_n 2, 1) := dk_28 (dk_at dksX2_drop_1 19 rfl rfl)
theorem dX2_drop_40 : decode cX2_drop 40 = .ok (.invokeinterface 144 2, 5) := by decide +kernel
theorem dX2_drop_45 : decode cX2_drop 45 = .ok (.checkcast 55, 3) := dk_192 0 55 (dk_at dksX2_drop_2 5 rfl rfl)
theorem dX2_drop_48 : decode cX2_drop 48 = .ok (.astore_n 3, 1) := dk_78 (dk_at dksX2_drop_2 8 rfl rfl)
theorem dX2_drop_49 : decode cX2_drop 49 = .ok (.return_, 1) := dk_177 (dk_at dksX2_drop_2 9 rfl rfl)
theorem dX2_drop_50 : decode cX2_drop 50 = .ok (.iinc 2 1, 3) := dk_132 2 1 (dk_at dksX2_drop_2 10 rfl rfl)
theorem dX2_drop_53 : decode cX2_drop 53 = .ok (.goto (-51), 3) := dk_167 255 205 (dk_at dksX2_drop_2 13 rfl rfl)
theorem dX2_drop_56 : decode cX2_drop 56 = .ok (.return_, 1) := dk_177 (dk_at dksX2_drop_2 16 rfl rfl)
abbrev cX2_giveBack : ByteArray := prog_25_method_29_code
def yX2_giveBack : MethodName := ⟨RX2, "giveBack", "(III)V"⟩
def dkwX2_giveBack_0 : List UInt8 := [42, 27, 28, 29, 116, 182, 0, 117, 42, 89, 180, 0, 73, 29, 96, 181, 0, 73, 177]
abbrev dktX2_giveBack_0 : List UInt8 := dkwX2_giveBack_0 ++ []
theorem dksX2_giveBack_0 : cX2_giveBack.data.toList.drop 0 = dktX2_giveBack_0 := by decide +kernel
theorem dX2_giveBack_0 : decode cX2_giveBack 0 = .ok (.aload_n 0, 1) := dk_42 (dk_at dksX2_giveBack_0 0 rfl rfl)
theorem dX2_giveBack_1 : decode cX2_giveBack 1 = .ok (.iload_n 1, 1) := dk_27 (dk_at dksX2_giveBack_0 1 rfl rfl)
theorem dX2_giveBack_2 : decode cX2_giveBack 2 = .ok (.iload_n 2, 1) := dk_28 (dk_at dksX2_giveBack_0 2 rfl rfl)
theorem dX2_giveBack_3 : decode cX2_giveBack 3 = .ok (.iload_n 3, 1) := dk_29 (dk_at dksX2_giveBack_0 3 rfl rfl)
theorem dX2_giveBack_4 : decode cX2_giveBack 4 = .ok (.ineg, 1) := dk_116 (dk_at dksX2_giveBack_0 4 rfl rfl)
theorem dX2_giveBack_5 : decode cX2_giveBack 5 = .ok (.invokevirtual 117, 3) := dk_182 0 117 (dk_at dksX2_giveBack_0 5 rfl rfl)
theorem dX2_giveBack_8 : decode cX2_giveBack 8 = .ok (.aload_n 0, 1) := dk_42 (dk_at dksX2_giveBack_0 8 rfl rfl)
theorem dX2_giveBack_9 : decode cX2_giveBack 9 = .ok (.dup, 1) := dk_89 (dk_at dksX2_giveBack_0 9 rfl rfl)
theorem dX2_giveBack_10 : decode cX2_giveBack 10 = .ok (.getfield 73, 3) := dk_180 0 73 (dk_at dksX2_giveBack_0 10 rfl rfl)
theorem dX2_giveBack_13 : decode cX2_giveBack 13 = .ok (.iload_n 3, 1) := dk_29 (dk_at dksX2_giveBack_0 13 rfl rfl)
theorem dX2_giveBack_14 : decode cX2_giveBack 14 = .ok (.iadd, 1) := dk_96 (dk_at dksX2_giveBack_0 14 rfl rfl)
theorem dX2_giveBack_15 : decode cX2_giveBack 15 = .ok (.putfield 73, 3) := dk_181 0 73 (dk_at dksX2_giveBack_0 15 rfl rfl)
theorem dX2_giveBack_18 : decode cX2_giveBack 18 = .ok (.return_, 1) := dk_177 (dk_at dksX2_giveBack_0 18 rfl rfl)
abbrev cX2_serve : ByteArray := prog_25_method_28_code
def yX2_serve : MethodName := ⟨RX2, "serve", "()I"⟩
def dkwX2_serve_1 : List UInt8 := [44, 182, 0, 147, 44, 182, 0, 150, 182, 0, 164, 132, 1, 1, 42, 182, 0, 157, 77, 167, 255, 220, 27, 172]
abbrev dktX2_serve_1 : List UInt8 := dkwX2_serve_1 ++ []
def dkwX2_serve_0 : List UInt8 := [3, 60, 42, 182, 0, 157, 77, 44, 198, 0, 38, 42, 44, 182, 0, 137, 182, 0, 161, 42, 44, 182, 0, 137]
abbrev dktX2_serve_0 : List UInt8 := dkwX2_serve_0 ++ dktX2_serve_1
theorem dksX2_serve_0 : cX2_serve.data.toList.drop 0 = dktX2_serve_0 := by decide +kernel
theorem dksX2_serve_1 : cX2_serve.data.toList.drop 24 = dktX2_serve_1 := dk_seg dksX2_serve_0 24 rfl rfl
theorem dX2_serve_0 : decode cX2_serve 0 = .ok (.iconst 0, 1) := dk_3 (dk_at dksX2_serve_0 0 rfl rfl)
theorem dX2_serve_1 : decode cX2_serve 1 = .ok (.istore_n 1, 1) := dk_60 (dk_at dksX2_serve_0 1 rfl rfl)
theorem dX2_serve_2 : decode cX2_serve 2 = .ok (.aload_n 0, 1) := dk_42 (dk_at dksX2_serve_0 2 rfl rfl)
theorem dX2_serve_3 : decode cX2_serve 3 = .ok (.invokevirtual 157, 3) := dk_182 0 157 (dk_at dksX2_serve_0 3 rfl rfl)
theorem dX2_serve_6 : decode cX2_serve 6 = .ok (.astore_n 2, 1) := dk_77 (dk_at dksX2_serve_0 6 rfl rfl)
theorem dX2_serve_7 : decode cX2_serve 7 = .ok (.aload_n 2, 1) := dk_44 (dk_at dksX2_serve_0 7 rfl rfl)
theorem dX2_serve_8 : decode cX2_serve 8 = .ok (.ifnull 38, 3) := dk_198 0 38 (dk_at dksX2_serve_0 8 rfl rfl)
theorem dX2_serve_11 : decode cX2_serve 11 = .ok (.aload_n 0, 1) := dk_42 (dk_at dksX2_serve_0 11 rfl rfl)
theorem dX2_serve_12 : decode cX2_serve 12 = .ok (.aload_n 2, 1) := dk_44 (dk_at dksX2_serve_0 12 rfl rfl)
theorem dX2_serve_13 : decode cX2_serve 13 = .ok (.invokevirtual 137, 3) := dk_182 0 137 (dk_at dksX2_serve_0 13 rfl rfl)
theorem dX2_serve_16 : decode cX2_serve 16 = .ok (.invokevirtual 161, 3) := dk_182 0 161 (dk_at dksX2_serve_0 16 rfl rfl)
theorem dX2_serve_19 : decode cX2_serve 19 = .ok (.aload_n 0, 1) := dk_42 (dk_at dksX2_serve_0 19 rfl rfl)
theorem dX2_serve_20 : decode cX2_serve 20 = .ok (.aload_n 2, 1) := dk_44 (dk_at dksX2_serve_0 20 rfl rfl)
theorem dX2_serve_21 : decode cX2_serve 21 = .ok (.invokevirtual 137, 3) := dk_182 0 137 (dk_at dksX2_serve_0 21 rfl rfl)
theorem dX2_serve_24 : decode cX2_serve 24 = .ok (.aload_n 2, 1) := dk_44 (dk_at dksX2_serve_1 0 rfl rfl)
theorem dX2_serve_25 : decode cX2_serve 25 = .ok (.invokevirtual 147, 3) := dk_182 0 147 (dk_at dksX2_serve_1 1 rfl rfl)
theorem dX2_serve_28 : decode cX2_serve 28 = .ok (.aload_n 2, 1) := dk_44 (dk_at dksX2_serve_1 4 rfl rfl)
theorem dX2_serve_29 : decode cX2_serve 29 = .ok (.invokevirtual 150, 3) := dk_182 0 150 (dk_at dksX2_serve_1 5 rfl rfl)
theorem dX2_serve_32 : decode cX2_serve 32 = .ok (.invokevirtual 164, 3) := dk_182 0 164 (dk_at dksX2_serve_1 8 rfl rfl)
theorem dX2_serve_35 : decode cX2_serve 35 = .ok (.iinc 1 1, 3) := dk_132 1 1 (dk_at dksX2_serve_1 11 rfl rfl)
theorem dX2_serve_38 : decode cX2_serve 38 = .ok (.aload_n 0, 1) := dk_42 (dk_at dksX2_serve_1 14 rfl rfl)
theorem dX2_serve_39 : decode cX2_serve 39 = .ok (.invokevirtual 157, 3) := dk_182 0 157 (dk_at dksX2_serve_1 15 rfl rfl)
theorem dX2_serve_42 : decode cX2_serve 42 = .ok (.astore_n 2, 1) := dk_77 (dk_at dksX2_serve_1 18 rfl rfl)
theorem dX2_serve_43 : decode cX2_serve 43 = .ok (.goto (-36), 3) := dk_167 255 220 (dk_at dksX2_serve_1 19 rfl rfl)
theorem dX2_serve_46 : decode cX2_serve 46 = .ok (.iload_n 1, 1) := dk_27 (dk_at dksX2_serve_1 22 rfl rfl)
theorem dX2_serve_47 : decode cX2_serve 47 = .ok (.ireturn, 1) := dk_172 (dk_at dksX2_serve_1 23 rfl rfl)
abbrev cX2_firstToServe : ByteArray := prog_25_method_27_code
def yX2_firstToServe : MethodName := ⟨RX2, "firstToServe", "()LPrinterClaims$Wish;"⟩
def dkwX2_firstToServe_2 : List UInt8 := [182, 0, 127, 153, 0, 5, 44, 176, 132, 1, 1, 167, 255, 205, 1, 176]
abbrev dktX2_firstToServe_2 : List UInt8 := dkwX2_firstToServe_2 ++ []
def dkwX2_firstToServe_1 : List UInt8 := [185, 0, 41, 2, 0, 192, 0, 55, 77, 42, 44, 182, 0, 137, 44, 182, 0, 147, 44, 182, 0, 150]
abbrev dktX2_firstToServe_1 : List UInt8 := dkwX2_firstToServe_1 ++ dktX2_firstToServe_2
def dkwX2_firstToServe_0 : List UInt8 := [3, 60, 27, 42, 180, 0, 20, 185, 0, 35, 1, 0, 162, 0, 44, 42, 180, 0, 20, 27]
abbrev dktX2_firstToServe_0 : List UInt8 := dkwX2_firstToServe_0 ++ dktX2_firstToServe_1
theorem dksX2_firstToServe_0 : cX2_firstToServe.data.toList.drop 0 = dktX2_firstToServe_0 := by decide +kernel
theorem dksX2_firstToServe_1 : cX2_firstToServe.data.toList.drop 20 = dktX2_firstToServe_1 := dk_seg dksX2_firstToServe_0 20 rfl rfl
theorem dksX2_firstToServe_2 : cX2_firstToServe.data.toList.drop 42 = dktX2_firstToServe_2 := dk_seg dksX2_firstToServe_1 22 rfl rfl
theorem dX2_firstToServe_0 : decode cX2_firstToServe 0 = .ok (.iconst 0, 1) := dk_3 (dk_at dksX2_firstToServe_0 0 rfl rfl)
theorem dX2_firstToServe_1 : decode cX2_firstToServe 1 = .ok (.istore_n 1, 1) := dk_60 (dk_at dksX2_firstToServe_0 1 rfl rfl)
theorem dX2_firstToServe_2 : decode cX2_firstToServe 2 = .ok (.iload_n 1, 1) := dk_27 (dk_at dksX2_firstToServe_0 2 rfl rfl)
theorem dX2_firstToServe_3 : decode cX2_firstToServe 3 = .ok (.aload_n 0, 1) := dk_42 (dk_at dksX2_firstToServe_0 3 rfl rfl)
theorem dX2_firstToServe_4 : decode cX2_firstToServe 4 = .ok (.getfield 20, 3) := dk_180 0 20 (dk_at dksX2_firstToServe_0 4 rfl rfl)
theorem dX2_firstToServe_7 : decode cX2_firstToServe 7 = .ok (.invokeinterface 35 1, 5) := by decide +kernel
theorem dX2_firstToServe_12 : decode cX2_firstToServe 12 = .ok (.if_icmp .ge 44, 3) := dk_162 0 44 (dk_at dksX2_firstToServe_0 12 rfl rfl)
theorem dX2_firstToServe_15 : decode cX2_firstToServe 15 = .ok (.aload_n 0, 1) := dk_42 (dk_at dksX2_firstToServe_0 15 rfl rfl)
theorem dX2_firstToServe_16 : decode cX2_firstToServe 16 = .ok (.getfield 20, 3) := dk_180 0 20 (dk_at dksX2_firstToServe_0 16 rfl rfl)
theorem dX2_firstToServe_19 : decode cX2_firstToServe 19 = .ok (.iload_n 1, 1) := dk_27 (dk_at dksX2_firstToServe_0 19 rfl rfl)
theorem dX2_firstToServe_20 : decode cX2_firstToServe 20 = .ok (.invokeinterface 41 2, 5) := by decide +kernel
theorem dX2_firstToServe_25 : decode cX2_firstToServe 25 = .ok (.checkcast 55, 3) := dk_192 0 55 (dk_at dksX2_firstToServe_1 5 rfl rfl)
theorem dX2_firstToServe_28 : decode cX2_firstToServe 28 = .ok (.astore_n 2, 1) := dk_77 (dk_at dksX2_firstToServe_1 8 rfl rfl)
theorem dX2_firstToServe_29 : decode cX2_firstToServe 29 = .ok (.aload_n 0, 1) := dk_42 (dk_at dksX2_firstToServe_1 9 rfl rfl)
theorem dX2_firstToServe_30 : decode cX2_firstToServe 30 = .ok (.aload_n 2, 1) := dk_44 (dk_at dksX2_firstToServe_1 10 rfl rfl)
theorem dX2_firstToServe_31 : decode cX2_firstToServe 31 = .ok (.invokevirtual 137, 3) := dk_182 0 137 (dk_at dksX2_firstToServe_1 11 rfl rfl)
theorem dX2_firstToServe_34 : decode cX2_firstToServe 34 = .ok (.aload_n 2, 1) := dk_44 (dk_at dksX2_firstToServe_1 14 rfl rfl)
theorem dX2_firstToServe_35 : decode cX2_firstToServe 35 = .ok (.invokevirtual 147, 3) := dk_182 0 147 (dk_at dksX2_firstToServe_1 15 rfl rfl)
theorem dX2_firstToServe_38 : decode cX2_firstToServe 38 = .ok (.aload_n 2, 1) := dk_44 (dk_at dksX2_firstToServe_1 18 rfl rfl)
theorem dX2_firstToServe_39 : decode cX2_firstToServe 39 = .ok (.invokevirtual 150, 3) := dk_182 0 150 (dk_at dksX2_firstToServe_1 19 rfl rfl)
theorem dX2_firstToServe_42 : decode cX2_firstToServe 42 = .ok (.invokevirtual 127, 3) := dk_182 0 127 (dk_at dksX2_firstToServe_2 0 rfl rfl)
theorem dX2_firstToServe_45 : decode cX2_firstToServe 45 = .ok (.ifCond .eq 5, 3) := dk_153 0 5 (dk_at dksX2_firstToServe_2 3 rfl rfl)
theorem dX2_firstToServe_48 : decode cX2_firstToServe 48 = .ok (.aload_n 2, 1) := dk_44 (dk_at dksX2_firstToServe_2 6 rfl rfl)
theorem dX2_firstToServe_49 : decode cX2_firstToServe 49 = .ok (.areturn, 1) := dk_176 (dk_at dksX2_firstToServe_2 7 rfl rfl)
theorem dX2_firstToServe_50 : decode cX2_firstToServe 50 = .ok (.iinc 1 1, 3) := dk_132 1 1 (dk_at dksX2_firstToServe_2 8 rfl rfl)
theorem dX2_firstToServe_53 : decode cX2_firstToServe 53 = .ok (.goto (-51), 3) := dk_167 255 205 (dk_at dksX2_firstToServe_2 11 rfl rfl)
theorem dX2_firstToServe_56 : decode cX2_firstToServe 56 = .ok (.aconst_null, 1) := dk_1 (dk_at dksX2_firstToServe_2 14 rfl rfl)
theorem dX2_firstToServe_57 : decode cX2_firstToServe 57 = .ok (.areturn, 1) := dk_176 (dk_at dksX2_firstToServe_2 15 rfl rfl)
abbrev cX2_grant : ByteArray := prog_25_method_25_code
def yX2_grant : MethodName := ⟨RX2, "grant", "(III)V"⟩
def dkwX2_grant_1 : List UInt8 := [181, 0, 64, 177]
abbrev dktX2_grant_1 : List UInt8 := dkwX2_grant_1 ++ []
def dkwX2_grant_0 : List UInt8 := [42, 27, 28, 29, 182, 0, 117, 42, 89, 180, 0, 61, 4, 96, 181, 0, 61, 42, 89, 180, 0, 64, 29, 96]
abbrev dktX2_grant_0 : List UInt8 := dkwX2_grant_0 ++ dktX2_grant_1
theorem dksX2_grant_0 : cX2_grant.data.toList.drop 0 = dktX2_grant_0 := by decide +kernel
theorem dksX2_grant_1 : cX2_grant.data.toList.drop 24 = dktX2_grant_1 := dk_seg dksX2_grant_0 24 rfl rfl
theorem dX2_grant_0 : decode cX2_grant 0 = .ok (.aload_n 0, 1) := dk_42 (dk_at dksX2_grant_0 0 rfl rfl)
theorem dX2_grant_1 : decode cX2_grant 1 = .ok (.iload_n 1, 1) := dk_27 (dk_at dksX2_grant_0 1 rfl rfl)
theorem dX2_grant_2 : decode cX2_grant 2 = .ok (.iload_n 2, 1) := dk_28 (dk_at dksX2_grant_0 2 rfl rfl)
theorem dX2_grant_3 : decode cX2_grant 3 = .ok (.iload_n 3, 1) := dk_29 (dk_at dksX2_grant_0 3 rfl rfl)
theorem dX2_grant_4 : decode cX2_grant 4 = .ok (.invokevirtual 117, 3) := dk_182 0 117 (dk_at dksX2_grant_0 4 rfl rfl)
theorem dX2_grant_7 : decode cX2_grant 7 = .ok (.aload_n 0, 1) := dk_42 (dk_at dksX2_grant_0 7 rfl rfl)
theorem dX2_grant_8 : decode cX2_grant 8 = .ok (.dup, 1) := dk_89 (dk_at dksX2_grant_0 8 rfl rfl)
theorem dX2_grant_9 : decode cX2_grant 9 = .ok (.getfield 61, 3) := dk_180 0 61 (dk_at dksX2_grant_0 9 rfl rfl)
theorem dX2_grant_12 : decode cX2_grant 12 = .ok (.iconst 1, 1) := dk_4 (dk_at dksX2_grant_0 12 rfl rfl)
theorem dX2_grant_13 : decode cX2_grant 13 = .ok (.iadd, 1) := dk_96 (dk_at dksX2_grant_0 13 rfl rfl)
theorem dX2_grant_14 : decode cX2_grant 14 = .ok (.putfield 61, 3) := dk_181 0 61 (dk_at dksX2_grant_0 14 rfl rfl)
theorem dX2_grant_17 : decode cX2_grant 17 = .ok (.aload_n 0, 1) := dk_42 (dk_at dksX2_grant_0 17 rfl rfl)
theorem dX2_grant_18 : decode cX2_grant 18 = .ok (.dup, 1) := dk_89 (dk_at dksX2_grant_0 18 rfl rfl)
theorem dX2_grant_19 : decode cX2_grant 19 = .ok (.getfield 64, 3) := dk_180 0 64 (dk_at dksX2_grant_0 19 rfl rfl)
theorem dX2_grant_22 : decode cX2_grant 22 = .ok (.iload_n 3, 1) := dk_29 (dk_at dksX2_grant_0 22 rfl rfl)
theorem dX2_grant_23 : decode cX2_grant 23 = .ok (.iadd, 1) := dk_96 (dk_at dksX2_grant_0 23 rfl rfl)
theorem dX2_grant_24 : decode cX2_grant 24 = .ok (.putfield 64, 3) := dk_181 0 64 (dk_at dksX2_grant_1 0 rfl rfl)
theorem dX2_grant_27 : decode cX2_grant 27 = .ok (.return_, 1) := dk_177 (dk_at dksX2_grant_1 3 rfl rfl)
abbrev cX2_has : ByteArray := prog_25_method_6_code
def yX2_has : MethodName := ⟨RX2, "has", "(II)Z"⟩
def dkwX2_has_0 : List UInt8 := [42, 27, 182, 0, 80, 153, 0, 15, 42, 28, 182, 0, 84, 153, 0, 7, 4, 167, 0, 4, 3, 172]
abbrev dktX2_has_0 : List UInt8 := dkwX2_has_0 ++ []
theorem dksX2_has_0 : cX2_has.data.toList.drop 0 = dktX2_has_0 := by decide +kernel
theorem dX2_has_0 : decode cX2_has 0 = .ok (.aload_n 0, 1) := dk_42 (dk_at dksX2_has_0 0 rfl rfl)
theorem dX2_has_1 : decode cX2_has 1 = .ok (.iload_n 1, 1) := dk_27 (dk_at dksX2_has_0 1 rfl rfl)
theorem dX2_has_2 : decode cX2_has 2 = .ok (.invokevirtual 80, 3) := dk_182 0 80 (dk_at dksX2_has_0 2 rfl rfl)
theorem dX2_has_5 : decode cX2_has 5 = .ok (.ifCond .eq 15, 3) := dk_153 0 15 (dk_at dksX2_has_0 5 rfl rfl)
theorem dX2_has_8 : decode cX2_has 8 = .ok (.aload_n 0, 1) := dk_42 (dk_at dksX2_has_0 8 rfl rfl)
theorem dX2_has_9 : decode cX2_has 9 = .ok (.iload_n 2, 1) := dk_28 (dk_at dksX2_has_0 9 rfl rfl)
theorem dX2_has_10 : decode cX2_has 10 = .ok (.invokevirtual 84, 3) := dk_182 0 84 (dk_at dksX2_has_0 10 rfl rfl)
theorem dX2_has_13 : decode cX2_has 13 = .ok (.ifCond .eq 7, 3) := dk_153 0 7 (dk_at dksX2_has_0 13 rfl rfl)
theorem dX2_has_16 : decode cX2_has 16 = .ok (.iconst 1, 1) := dk_4 (dk_at dksX2_has_0 16 rfl rfl)
theorem dX2_has_17 : decode cX2_has 17 = .ok (.goto 4, 3) := dk_167 0 4 (dk_at dksX2_has_0 17 rfl rfl)
theorem dX2_has_20 : decode cX2_has 20 = .ok (.iconst 0, 1) := dk_3 (dk_at dksX2_has_0 20 rfl rfl)
theorem dX2_has_21 : decode cX2_has 21 = .ok (.ireturn, 1) := dk_172 (dk_at dksX2_has_0 21 rfl rfl)
abbrev cX2_delay : ByteArray := prog_25_method_26_code
def yX2_delay : MethodName := ⟨RX2, "delay", "(LPrinterClaims$Wish;)V"⟩
def dkwX2_delay_2 : List UInt8 := [184, 0, 153, 96, 181, 0, 70, 177]
abbrev dktX2_delay_2 : List UInt8 := dkwX2_delay_2 ++ []
def dkwX2_delay_1 : List UInt8 := [180, 0, 70, 42, 43, 182, 0, 147, 182, 0, 94, 43, 182, 0, 150, 161, 0, 7, 4, 167, 0, 4, 3]
abbrev dktX2_delay_1 : List UInt8 := dkwX2_delay_1 ++ dktX2_delay_2
def dkwX2_delay_0 : List UInt8 := [42, 180, 0, 20, 43, 185, 0, 51, 2, 0, 87, 42, 89, 180, 0, 67, 4, 96, 181, 0, 67, 42, 89]
abbrev dktX2_delay_0 : List UInt8 := dkwX2_delay_0 ++ dktX2_delay_1
theorem dksX2_delay_0 : cX2_delay.data.toList.drop 0 = dktX2_delay_0 := by decide +kernel
theorem dksX2_delay_1 : cX2_delay.data.toList.drop 23 = dktX2_delay_1 := dk_seg dksX2_delay_0 23 rfl rfl
theorem dksX2_delay_2 : cX2_delay.data.toList.drop 46 = dktX2_delay_2 := dk_seg dksX2_delay_1 23 rfl rfl
theorem dX2_delay_0 : decode cX2_delay 0 = .ok (.aload_n 0, 1) := dk_42 (dk_at dksX2_delay_0 0 rfl rfl)
theorem dX2_delay_1 : decode cX2_delay 1 = .ok (.getfield 20, 3) := dk_180 0 20 (dk_at dksX2_delay_0 1 rfl rfl)
theorem dX2_delay_4 : decode cX2_delay 4 = .ok (.aload_n 1, 1) := dk_43 (dk_at dksX2_delay_0 4 rfl rfl)
theorem dX2_delay_5 : decode cX2_delay 5 = .ok (.invokeinterface 51 2, 5) := by decide +kernel
theorem dX2_delay_10 : decode cX2_delay 10 = .ok (.pop, 1) := dk_87 (dk_at dksX2_delay_0 10 rfl rfl)
theorem dX2_delay_11 : decode cX2_delay 11 = .ok (.aload_n 0, 1) := dk_42 (dk_at dksX2_delay_0 11 rfl rfl)
theorem dX2_delay_12 : decode cX2_delay 12 = .ok (.dup, 1) := dk_89 (dk_at dksX2_delay_0 12 rfl rfl)
theorem dX2_delay_13 : decode cX2_delay 13 = .ok (.getfield 67, 3) := dk_180 0 67 (dk_at dksX2_delay_0 13 rfl rfl)
theorem dX2_delay_16 : decode cX2_delay 16 = .ok (.iconst 1, 1) := dk_4 (dk_at dksX2_delay_0 16 rfl rfl)
theorem dX2_delay_17 : decode cX2_delay 17 = .ok (.iadd, 1) := dk_96 (dk_at dksX2_delay_0 17 rfl rfl)
theorem dX2_delay_18 : decode cX2_delay 18 = .ok (.putfield 67, 3) := dk_181 0 67 (dk_at dksX2_delay_0 18 rfl rfl)
theorem dX2_delay_21 : decode cX2_delay 21 = .ok (.aload_n 0, 1) := dk_42 (dk_at dksX2_delay_0 21 rfl rfl)
theorem dX2_delay_22 : decode cX2_delay 22 = .ok (.dup, 1) := dk_89 (dk_at dksX2_delay_0 22 rfl rfl)
theorem dX2_delay_23 : decode cX2_delay 23 = .ok (.getfield 70, 3) := dk_180 0 70 (dk_at dksX2_delay_1 0 rfl rfl)
theorem dX2_delay_26 : decode cX2_delay 26 = .ok (.aload_n 0, 1) := dk_42 (dk_at dksX2_delay_1 3 rfl rfl)
theorem dX2_delay_27 : decode cX2_delay 27 = .ok (.aload_n 1, 1) := dk_43 (dk_at dksX2_delay_1 4 rfl rfl)
theorem dX2_delay_28 : decode cX2_delay 28 = .ok (.invokevirtual 147, 3) := dk_182 0 147 (dk_at dksX2_delay_1 5 rfl rfl)
theorem dX2_delay_31 : decode cX2_delay 31 = .ok (.invokevirtual 94, 3) := dk_182 0 94 (dk_at dksX2_delay_1 8 rfl rfl)
theorem dX2_delay_34 : decode cX2_delay 34 = .ok (.aload_n 1, 1) := dk_43 (dk_at dksX2_delay_1 11 rfl rfl)
theorem dX2_delay_35 : decode cX2_delay 35 = .ok (.invokevirtual 150, 3) := dk_182 0 150 (dk_at dksX2_delay_1 12 rfl rfl)
theorem dX2_delay_38 : decode cX2_delay 38 = .ok (.if_icmp .lt 7, 3) := dk_161 0 7 (dk_at dksX2_delay_1 15 rfl rfl)
theorem dX2_delay_41 : decode cX2_delay 41 = .ok (.iconst 1, 1) := dk_4 (dk_at dksX2_delay_1 18 rfl rfl)
theorem dX2_delay_42 : decode cX2_delay 42 = .ok (.goto 4, 3) := dk_167 0 4 (dk_at dksX2_delay_1 19 rfl rfl)
theorem dX2_delay_45 : decode cX2_delay 45 = .ok (.iconst 0, 1) := dk_3 (dk_at dksX2_delay_1 22 rfl rfl)
theorem dX2_delay_46 : decode cX2_delay 46 = .ok (.invokestatic 153, 3) := dk_184 0 153 (dk_at dksX2_delay_2 0 rfl rfl)
theorem dX2_delay_49 : decode cX2_delay 49 = .ok (.iadd, 1) := dk_96 (dk_at dksX2_delay_2 3 rfl rfl)
theorem dX2_delay_50 : decode cX2_delay 50 = .ok (.putfield 70, 3) := dk_181 0 70 (dk_at dksX2_delay_2 4 rfl rfl)
theorem dX2_delay_53 : decode cX2_delay 53 = .ok (.return_, 1) := dk_177 (dk_at dksX2_delay_2 7 rfl rfl)
abbrev cX2_canClaim : ByteArray := prog_25_method_20_code
def yX2_canClaim : MethodName := ⟨RX2, "canClaim", "(III)Z"⟩
def dkwX2_canClaim_2 : List UInt8 := [28, 21, 5, 79, 25, 7, 191]
abbrev dktX2_canClaim_2 : List UInt8 := dkwX2_canClaim_2 ++ []
def dkwX2_canClaim_1 : List UInt8 := [25, 4, 28, 29, 79, 42, 182, 0, 121, 54, 6, 25, 4, 28, 21, 5, 79, 21, 6, 172, 58, 7, 25, 4]
abbrev dktX2_canClaim_1 : List UInt8 := dkwX2_canClaim_1 ++ dktX2_canClaim_2
def dkwX2_canClaim_0 : List UInt8 := [42, 180, 0, 14, 27, 185, 0, 41, 2, 0, 192, 0, 45, 180, 0, 99, 58, 4, 25, 4, 28, 46, 54, 5]
abbrev dktX2_canClaim_0 : List UInt8 := dkwX2_canClaim_0 ++ dktX2_canClaim_1
theorem dksX2_canClaim_0 : cX2_canClaim.data.toList.drop 0 = dktX2_canClaim_0 := by decide +kernel
theorem dksX2_canClaim_1 : cX2_canClaim.data.toList.drop 24 = dktX2_canClaim_1 := dk_seg dksX2_canClaim_0 24 rfl rfl
theorem dksX2_canClaim_2 : cX2_canClaim.data.toList.drop 48 = dktX2_canClaim_2 := dk_seg dksX2_canClaim_1 24 rfl rfl
theorem dX2_canClaim_0 : decode cX2_canClaim 0 = .ok (.aload_n 0, 1) := dk_42 (dk_at dksX2_canClaim_0 0 rfl rfl)
theorem dX2_canClaim_1 : decode cX2_canClaim 1 = .ok (.getfield 14, 3) := dk_180 0 14 (dk_at dksX2_canClaim_0 1 rfl rfl)
theorem dX2_canClaim_4 : decode cX2_canClaim 4 = .ok (.iload_n 1, 1) := dk_27 (dk_at dksX2_canClaim_0 4 rfl rfl)
theorem dX2_canClaim_5 : decode cX2_canClaim 5 = .ok (.invokeinterface 41 2, 5) := by decide +kernel
theorem dX2_canClaim_10 : decode cX2_canClaim 10 = .ok (.checkcast 45, 3) := dk_192 0 45 (dk_at dksX2_canClaim_0 10 rfl rfl)
theorem dX2_canClaim_13 : decode cX2_canClaim 13 = .ok (.getfield 99, 3) := dk_180 0 99 (dk_at dksX2_canClaim_0 13 rfl rfl)
theorem dX2_canClaim_16 : decode cX2_canClaim 16 = .ok (.astore 4, 2) := dk_58 4 (dk_at dksX2_canClaim_0 16 rfl rfl)
theorem dX2_canClaim_18 : decode cX2_canClaim 18 = .ok (.aload 4, 2) := dk_25 4 (dk_at dksX2_canClaim_0 18 rfl rfl)
theorem dX2_canClaim_20 : decode cX2_canClaim 20 = .ok (.iload_n 2, 1) := dk_28 (dk_at dksX2_canClaim_0 20 rfl rfl)
theorem dX2_canClaim_21 : decode cX2_canClaim 21 = .ok (.iaload, 1) := dk_46 (dk_at dksX2_canClaim_0 21 rfl rfl)
theorem dX2_canClaim_22 : decode cX2_canClaim 22 = .ok (.istore 5, 2) := dk_54 5 (dk_at dksX2_canClaim_0 22 rfl rfl)
theorem dX2_canClaim_24 : decode cX2_canClaim 24 = .ok (.aload 4, 2) := dk_25 4 (dk_at dksX2_canClaim_1 0 rfl rfl)
theorem dX2_canClaim_26 : decode cX2_canClaim 26 = .ok (.iload_n 2, 1) := dk_28 (dk_at dksX2_canClaim_1 2 rfl rfl)
theorem dX2_canClaim_27 : decode cX2_canClaim 27 = .ok (.iload_n 3, 1) := dk_29 (dk_at dksX2_canClaim_1 3 rfl rfl)
theorem dX2_canClaim_28 : decode cX2_canClaim 28 = .ok (.iastore, 1) := dk_79 (dk_at dksX2_canClaim_1 4 rfl rfl)
theorem dX2_canClaim_29 : decode cX2_canClaim 29 = .ok (.aload_n 0, 1) := dk_42 (dk_at dksX2_canClaim_1 5 rfl rfl)
theorem dX2_canClaim_30 : decode cX2_canClaim 30 = .ok (.invokevirtual 121, 3) := dk_182 0 121 (dk_at dksX2_canClaim_1 6 rfl rfl)
theorem dX2_canClaim_33 : decode cX2_canClaim 33 = .ok (.istore 6, 2) := dk_54 6 (dk_at dksX2_canClaim_1 9 rfl rfl)
theorem dX2_canClaim_35 : decode cX2_canClaim 35 = .ok (.aload 4, 2) := dk_25 4 (dk_at dksX2_canClaim_1 11 rfl rfl)
theorem dX2_canClaim_37 : decode cX2_canClaim 37 = .ok (.iload_n 2, 1) := dk_28 (dk_at dksX2_canClaim_1 13 rfl rfl)
theorem dX2_canClaim_38 : decode cX2_canClaim 38 = .ok (.iload 5, 2) := dk_21 5 (dk_at dksX2_canClaim_1 14 rfl rfl)
theorem dX2_canClaim_40 : decode cX2_canClaim 40 = .ok (.iastore, 1) := dk_79 (dk_at dksX2_canClaim_1 16 rfl rfl)
theorem dX2_canClaim_41 : decode cX2_canClaim 41 = .ok (.iload 6, 2) := dk_21 6 (dk_at dksX2_canClaim_1 17 rfl rfl)
theorem dX2_canClaim_43 : decode cX2_canClaim 43 = .ok (.ireturn, 1) := dk_172 (dk_at dksX2_canClaim_1 19 rfl rfl)
theorem dX2_canClaim_44 : decode cX2_canClaim 44 = .ok (.astore 7, 2) := dk_58 7 (dk_at dksX2_canClaim_1 20 rfl rfl)
theorem dX2_canClaim_46 : decode cX2_canClaim 46 = .ok (.aload 4, 2) := dk_25 4 (dk_at dksX2_canClaim_1 22 rfl rfl)
theorem dX2_canClaim_48 : decode cX2_canClaim 48 = .ok (.iload_n 2, 1) := dk_28 (dk_at dksX2_canClaim_2 0 rfl rfl)
theorem dX2_canClaim_49 : decode cX2_canClaim 49 = .ok (.iload 5, 2) := dk_21 5 (dk_at dksX2_canClaim_2 1 rfl rfl)
theorem dX2_canClaim_51 : decode cX2_canClaim 51 = .ok (.iastore, 1) := dk_79 (dk_at dksX2_canClaim_2 3 rfl rfl)
theorem dX2_canClaim_52 : decode cX2_canClaim 52 = .ok (.aload 7, 2) := dk_25 7 (dk_at dksX2_canClaim_2 4 rfl rfl)
theorem dX2_canClaim_54 : decode cX2_canClaim 54 = .ok (.athrow, 1) := dk_191 (dk_at dksX2_canClaim_2 6 rfl rfl)
theorem q102 : (Jvm.Cond.initialized "PrinterClaims$State") ∈ lw_all := lw_g (lw_at lw_m1 4 rfl) rfl
theorem q187 : (Jvm.Cond.instantiable "PrinterClaims$State" (9 : Nat)) ∈ lw_all := lw_g (lw_at lw_m1 89 rfl) rfl
theorem q189 : (Jvm.Cond.instanceMethod ({ cls := "PrinterClaims$State", name := "<init>", desc := "([I)V" } : Jvm.MethodName)) ∈ lw_all := lw_g (lw_at lw_m1 91 rfl) rfl
theorem q190 : (Jvm.Cond.code ({ cls := "PrinterClaims$State", name := "<init>", desc := "([I)V" } : Jvm.MethodName) prog_25_method_1_code (2 : Nat) (Option.none : Option Jvm.ClassFile.FieldType)) ∈ lw_all := lw_g (lw_at lw_m1 92 rfl) rfl
theorem q191 : (Jvm.Cond.methodLink "PrinterClaims$State" (3 : Nat) ({ cls := "java/lang/Object", name := "<init>", desc := "()V" } : Jvm.MethodName)) ∈ lw_all := lw_g (lw_at lw_m1 93 rfl) rfl
theorem q192 : (Jvm.Cond.classLink "PrinterClaims$State" (9 : Nat) "java/util/ArrayList") ∈ lw_all := lw_g (lw_at lw_m1 94 rfl) rfl
theorem q194 : (Jvm.Cond.methodLink "PrinterClaims$State" (11 : Nat) ({ cls := "java/util/ArrayList", name := "<init>", desc := "(I)V" } : Jvm.MethodName)) ∈ lw_all := lw_g (lw_at lw_m1 96 rfl) rfl
theorem q541 : (Jvm.Cond.fieldLink "PrinterClaims$State" (23 : Nat) "PrinterClaims$State" "totals" "[I") ∈ lw_all := lw_g (lw_at lw_m2 203 rfl) rfl
theorem q549 : (Jvm.Cond.fieldLink "PrinterClaims$State" (14 : Nat) "PrinterClaims$State" "offices" "Ljava/util/List;") ∈ lw_all := lw_g (lw_at lw_m2 211 rfl) rfl
theorem q553 : (Jvm.Cond.fieldLink "PrinterClaims$State" (20 : Nat) "PrinterClaims$State" "wishes" "Ljava/util/List;") ∈ lw_all := lw_g (lw_at lw_m2 215 rfl) rfl
theorem q557 : (Jvm.Cond.fieldLink "PrinterClaims$State" (57 : Nat) "PrinterClaims$State" "loaded" "I") ∈ lw_all := lw_g (lw_at lw_m2 219 rfl) rfl
theorem q559 : (Jvm.Cond.fieldLink "PrinterClaims$State" (61 : Nat) "PrinterClaims$State" "granted" "I") ∈ lw_all := lw_g (lw_at lw_m2 221 rfl) rfl
theorem q561 : (Jvm.Cond.fieldLink "PrinterClaims$State" (64 : Nat) "PrinterClaims$State" "grantedPrinters" "I") ∈ lw_all := lw_g (lw_at lw_m2 223 rfl) rfl
theorem q563 : (Jvm.Cond.fieldLink "PrinterClaims$State" (67 : Nat) "PrinterClaims$State" "delayed" "I") ∈ lw_all := lw_g (lw_at lw_m2 225 rfl) rfl
theorem q565 : (Jvm.Cond.fieldLink "PrinterClaims$State" (70 : Nat) "PrinterClaims$State" "\x75nsafe" "I") ∈ lw_all := lw_g (lw_at lw_m2 227 rfl) rfl
theorem q567 : (Jvm.Cond.fieldLink "PrinterClaims$State" (73 : Nat) "PrinterClaims$State" "returned" "I") ∈ lw_all := lw_g (lw_at lw_m2 229 rfl) rfl
theorem q569 : (Jvm.Cond.laysFinal "PrinterClaims$State" "PrinterClaims$State" "totals" "[I") ∈ lw_all := lw_g (lw_at lw_m2 231 rfl) rfl
theorem q570 : (Jvm.Cond.soleField "PrinterClaims$State" "totals") ∈ lw_all := lw_g (lw_at lw_m2 232 rfl) rfl
theorem q571 : (Jvm.Cond.laysFinal "PrinterClaims$State" "PrinterClaims$State" "offices" "Ljava/util/List;") ∈ lw_all := lw_g (lw_at lw_m2 233 rfl) rfl
theorem q572 : (Jvm.Cond.soleField "PrinterClaims$State" "offices") ∈ lw_all := lw_g (lw_at lw_m2 234 rfl) rfl
theorem q573 : (Jvm.Cond.laysFinal "PrinterClaims$State" "PrinterClaims$State" "wishes" "Ljava/util/List;") ∈ lw_all := lw_g (lw_at lw_m2 235 rfl) rfl
theorem q574 : (Jvm.Cond.soleField "PrinterClaims$State" "wishes") ∈ lw_all := lw_g (lw_at lw_m2 236 rfl) rfl
theorem q575 : (Jvm.Cond.lays "PrinterClaims$State" "PrinterClaims$State" "loaded" "I") ∈ lw_all := lw_g (lw_at lw_m2 237 rfl) rfl
theorem q576 : (Jvm.Cond.soleField "PrinterClaims$State" "loaded") ∈ lw_all := lw_g (lw_at lw_m2 238 rfl) rfl
theorem q577 : (Jvm.Cond.lays "PrinterClaims$State" "PrinterClaims$State" "granted" "I") ∈ lw_all := lw_g (lw_at lw_m2 239 rfl) rfl
theorem q578 : (Jvm.Cond.soleField "PrinterClaims$State" "granted") ∈ lw_all := lw_g (lw_at lw_m3 0 rfl) rfl
theorem q579 : (Jvm.Cond.lays "PrinterClaims$State" "PrinterClaims$State" "grantedPrinters" "I") ∈ lw_all := lw_g (lw_at lw_m3 1 rfl) rfl
theorem q580 : (Jvm.Cond.soleField "PrinterClaims$State" "grantedPrinters") ∈ lw_all := lw_g (lw_at lw_m3 2 rfl) rfl
theorem q581 : (Jvm.Cond.lays "PrinterClaims$State" "PrinterClaims$State" "delayed" "I") ∈ lw_all := lw_g (lw_at lw_m3 3 rfl) rfl
theorem q582 : (Jvm.Cond.soleField "PrinterClaims$State" "delayed") ∈ lw_all := lw_g (lw_at lw_m3 4 rfl) rfl
theorem q583 : (Jvm.Cond.lays "PrinterClaims$State" "PrinterClaims$State" "\x75nsafe" "I") ∈ lw_all := lw_g (lw_at lw_m3 5 rfl) rfl
theorem q584 : (Jvm.Cond.soleField "PrinterClaims$State" "\x75nsafe") ∈ lw_all := lw_g (lw_at lw_m3 6 rfl) rfl
theorem q585 : (Jvm.Cond.lays "PrinterClaims$State" "PrinterClaims$State" "returned" "I") ∈ lw_all := lw_g (lw_at lw_m3 7 rfl) rfl
theorem q586 : (Jvm.Cond.soleField "PrinterClaims$State" "returned") ∈ lw_all := lw_g (lw_at lw_m3 8 rfl) rfl
theorem q587 : (Jvm.Cond.superclass "PrinterClaims$State" "java/lang/Object") ∈ lw_all := lw_g (lw_at lw_m3 9 rfl) rfl
theorem q600 : (Jvm.Cond.fieldLinkNest "PrinterClaims$State" (99 : Nat) "PrinterClaims$Office" "claims" "[I" "PrinterClaims") ∈ lw_tbl := lw_at lw_m3 22 rfl
theorem q605 : (Jvm.Cond.fieldLinkNest "PrinterClaims$State" (87 : Nat) "PrinterClaims$Office" "allocations" "[I" "PrinterClaims") ∈ lw_tbl := lw_at lw_m3 27 rfl
theorem q613 : (Jvm.Cond.instanceMethod ({ cls := "PrinterClaims$State", name := "add", desc := "(LPrinterClaims$Office;)V" } : Jvm.MethodName)) ∈ lw_all := lw_g (lw_at lw_m3 35 rfl) rfl
theorem q614 : (Jvm.Cond.selects "PrinterClaims$State" ({ cls := "PrinterClaims$State", name := "add", desc := "(LPrinterClaims$Office;)V" } : Jvm.MethodName) ({ cls := "PrinterClaims$State", name := "add", desc := "(LPrinterClaims$Office;)V" } : Jvm.MethodName)) ∈ lw_all := lw_g (lw_at lw_m3 36 rfl) rfl
theorem q615 : (Jvm.Cond.code ({ cls := "PrinterClaims$State", name := "add", desc := "(LPrinterClaims$Office;)V" } : Jvm.MethodName) prog_25_method_8_code (2 : Nat) (Option.none : Option Jvm.ClassFile.FieldType)) ∈ lw_all := lw_g (lw_at lw_m3 37 rfl) rfl
theorem q616 : (Jvm.Cond.interfaceEntry "PrinterClaims$State" (51 : Nat)) ∈ lw_tbl := lw_at lw_m3 38 rfl
theorem q617 : (Jvm.Cond.methodLink "PrinterClaims$State" (51 : Nat) ({ cls := "java/util/List", name := "add", desc := "(Ljava/lang/Object;)Z" } : Jvm.MethodName)) ∈ lw_all := lw_g (lw_at lw_m3 39 rfl) rfl
theorem q666 : (Jvm.Cond.selects "PrinterClaims$State" ({ cls := "java/lang/Object", name := "getClass", desc := "()Ljava/lang/Class;" } : Jvm.MethodName) ({ cls := "java/lang/Object", name := "getClass", desc := "()Ljava/lang/Class;" } : Jvm.MethodName)) ∈ lw_all := lw_g (lw_at lw_m3 88 rfl) rfl
theorem q690 : (Jvm.Cond.methodLink "PrinterClaims$State" (90 : Nat) ({ cls := "PrinterClaims$State", name := "sum", desc := "([I)I" } : Jvm.MethodName)) ∈ lw_all := lw_g (lw_at lw_m3 112 rfl) rfl
theorem q691 : (Jvm.Cond.static ({ cls := "PrinterClaims$State", name := "sum", desc := "([I)I" } : Jvm.MethodName)) ∈ lw_all := lw_g (lw_at lw_m3 113 rfl) rfl
theorem q692 : (Jvm.Cond.code ({ cls := "PrinterClaims$State", name := "sum", desc := "([I)I" } : Jvm.MethodName) prog_25_method_12_code (1 : Nat) (Option.some Jvm.ClassFile.FieldType.int)) ∈ lw_all := lw_g (lw_at lw_m3 114 rfl) rfl
theorem q693 : (Jvm.Cond.methodLinkNest "PrinterClaims$State" (98 : Nat) ({ cls := "PrinterClaims", name := "sum", desc := "([I)I" } : Jvm.MethodName) "PrinterClaims") ∈ lw_tbl := lw_at lw_m3 115 rfl
theorem q738 : (Jvm.Cond.instanceMethod ({ cls := "PrinterClaims$State", name := "kinds", desc := "()I" } : Jvm.MethodName)) ∈ lw_all := lw_g (lw_at lw_m3 160 rfl) rfl
theorem q739 : (Jvm.Cond.selects "PrinterClaims$State" ({ cls := "PrinterClaims$State", name := "kinds", desc := "()I" } : Jvm.MethodName) ({ cls := "PrinterClaims$State", name := "kinds", desc := "()I" } : Jvm.MethodName)) ∈ lw_all := lw_g (lw_at lw_m3 161 rfl) rfl
theorem q740 : (Jvm.Cond.code ({ cls := "PrinterClaims$State", name := "kinds", desc := "()I" } : Jvm.MethodName) prog_25_method_3_code (1 : Nat) (Option.some Jvm.ClassFile.FieldType.int)) ∈ lw_all := lw_g (lw_at lw_m3 162 rfl) rfl
theorem q746 : (Jvm.Cond.instanceMethod ({ cls := "PrinterClaims$State", name := "available", desc := "(I)I" } : Jvm.MethodName)) ∈ lw_all := lw_g (lw_at lw_m3 168 rfl) rfl
theorem q747 : (Jvm.Cond.selects "PrinterClaims$State" ({ cls := "PrinterClaims$State", name := "available", desc := "(I)I" } : Jvm.MethodName) ({ cls := "PrinterClaims$State", name := "available", desc := "(I)I" } : Jvm.MethodName)) ∈ lw_all := lw_g (lw_at lw_m3 169 rfl) rfl
theorem q748 : (Jvm.Cond.code ({ cls := "PrinterClaims$State", name := "available", desc := "(I)I" } : Jvm.MethodName) prog_25_method_9_code (4 : Nat) (Option.some Jvm.ClassFile.FieldType.int)) ∈ lw_all := lw_g (lw_at lw_m3 170 rfl) rfl
theorem q749 : (Jvm.Cond.interfaceEntry "PrinterClaims$State" (35 : Nat)) ∈ lw_tbl := lw_at lw_m3 171 rfl
theorem q750 : (Jvm.Cond.methodLink "PrinterClaims$State" (35 : Nat) ({ cls := "java/util/List", name := "size", desc := "()I" } : Jvm.MethodName)) ∈ lw_all := lw_g (lw_at lw_m3 172 rfl) rfl
theorem q758 : (Jvm.Cond.interfaceEntry "PrinterClaims$State" (41 : Nat)) ∈ lw_tbl := lw_at lw_m3 180 rfl
theorem q759 : (Jvm.Cond.methodLink "PrinterClaims$State" (41 : Nat) ({ cls := "java/util/List", name := "get", desc := "(I)Ljava/lang/Object;" } : Jvm.MethodName)) ∈ lw_all := lw_g (lw_at lw_m3 181 rfl) rfl
theorem q777 : (Jvm.Cond.classLink "PrinterClaims$State" (45 : Nat) "PrinterClaims$Office") ∈ lw_all := lw_g (lw_at lw_m3 199 rfl) rfl
theorem q784 : (Jvm.Cond.instanceMethod ({ cls := "PrinterClaims$State", name := "allocated", desc := "()I" } : Jvm.MethodName)) ∈ lw_all := lw_g (lw_at lw_m3 206 rfl) rfl
theorem q785 : (Jvm.Cond.selects "PrinterClaims$State" ({ cls := "PrinterClaims$State", name := "allocated", desc := "()I" } : Jvm.MethodName) ({ cls := "PrinterClaims$State", name := "allocated", desc := "()I" } : Jvm.MethodName)) ∈ lw_all := lw_g (lw_at lw_m3 207 rfl) rfl
theorem q786 : (Jvm.Cond.code ({ cls := "PrinterClaims$State", name := "allocated", desc := "()I" } : Jvm.MethodName) prog_25_method_11_code (3 : Nat) (Option.some Jvm.ClassFile.FieldType.int)) ∈ lw_all := lw_g (lw_at lw_m3 208 rfl) rfl
theorem q798 : (Jvm.Cond.instanceMethod ({ cls := "PrinterClaims$State", name := "available", desc := "()[I" } : Jvm.MethodName)) ∈ lw_all := lw_g (lw_at lw_m3 220 rfl) rfl
theorem q799 : (Jvm.Cond.selects "PrinterClaims$State" ({ cls := "PrinterClaims$State", name := "available", desc := "()[I" } : Jvm.MethodName) ({ cls := "PrinterClaims$State", name := "available", desc := "()[I" } : Jvm.MethodName)) ∈ lw_all := lw_g (lw_at lw_m3 221 rfl) rfl
theorem q800 : (Jvm.Cond.code ({ cls := "PrinterClaims$State", name := "available", desc := "()[I" } : Jvm.MethodName) prog_25_method_10_code (3 : Nat) (Option.some (Jvm.ClassFile.FieldType.array Jvm.ClassFile.FieldType.int))) ∈ lw_all := lw_g (lw_at lw_m3 222 rfl) rfl
theorem q801 : (Jvm.Cond.methodLink "PrinterClaims$State" (94 : Nat) ({ cls := "PrinterClaims$State", name := "available", desc := "(I)I" } : Jvm.MethodName)) ∈ lw_all := lw_g (lw_at lw_m3 223 rfl) rfl
theorem q869 : (Jvm.Cond.instanceMethod ({ cls := "PrinterClaims$State", name := "get", desc := "(I)LPrinterClaims$Office;" } : Jvm.MethodName)) ∈ lw_all := lw_g (lw_at lw_m4 51 rfl) rfl
theorem q870 : (Jvm.Cond.selects "PrinterClaims$State" ({ cls := "PrinterClaims$State", name := "get", desc := "(I)LPrinterClaims$Office;" } : Jvm.MethodName) ({ cls := "PrinterClaims$State", name := "get", desc := "(I)LPrinterClaims$Office;" } : Jvm.MethodName)) ∈ lw_all := lw_g (lw_at lw_m4 52 rfl) rfl
theorem q871 : (Jvm.Cond.code ({ cls := "PrinterClaims$State", name := "get", desc := "(I)LPrinterClaims$Office;" } : Jvm.MethodName) prog_25_method_7_code (2 : Nat) (Option.some (Jvm.ClassFile.FieldType.object "PrinterClaims$Office"))) ∈ lw_all := lw_g (lw_at lw_m4 53 rfl) rfl
theorem q980 : (Jvm.Cond.instanceMethod ({ cls := "PrinterClaims$State", name := "copy", desc := "()LPrinterClaims$State;" } : Jvm.MethodName)) ∈ lw_all := lw_g (lw_at lw_m4 162 rfl) rfl
theorem q981 : (Jvm.Cond.selects "PrinterClaims$State" ({ cls := "PrinterClaims$State", name := "copy", desc := "()LPrinterClaims$State;" } : Jvm.MethodName) ({ cls := "PrinterClaims$State", name := "copy", desc := "()LPrinterClaims$State;" } : Jvm.MethodName)) ∈ lw_all := lw_g (lw_at lw_m4 163 rfl) rfl
theorem q982 : (Jvm.Cond.code ({ cls := "PrinterClaims$State", name := "copy", desc := "()LPrinterClaims$State;" } : Jvm.MethodName) prog_25_method_2_code (3 : Nat) (Option.some (Jvm.ClassFile.FieldType.object "PrinterClaims$State"))) ∈ lw_all := lw_g (lw_at lw_m4 164 rfl) rfl
theorem q983 : (Jvm.Cond.classLink "PrinterClaims$State" (15 : Nat) "PrinterClaims$State") ∈ lw_all := lw_g (lw_at lw_m4 165 rfl) rfl
theorem q984 : (Jvm.Cond.methodLink "PrinterClaims$State" (27 : Nat) ({ cls := "[I", name := "clone", desc := "()Ljava/lang/Object;" } : Jvm.MethodName)) ∈ lw_all := lw_g (lw_at lw_m4 166 rfl) rfl
theorem q988 : (Jvm.Cond.classLink "PrinterClaims$State" (28 : Nat) "[I") ∈ lw_all := lw_g (lw_at lw_m4 170 rfl) rfl
theorem q989 : (Jvm.Cond.methodLink "PrinterClaims$State" (32 : Nat) ({ cls := "PrinterClaims$State", name := "<init>", desc := "([I)V" } : Jvm.MethodName)) ∈ lw_all := lw_g (lw_at lw_m4 171 rfl) rfl
theorem q990 : (Jvm.Cond.methodLink "PrinterClaims$State" (47 : Nat) ({ cls := "PrinterClaims$Office", name := "copy", desc := "()LPrinterClaims$Office;" } : Jvm.MethodName)) ∈ lw_all := lw_g (lw_at lw_m4 172 rfl) rfl
theorem q998 : (Jvm.Cond.classLink "PrinterClaims$State" (55 : Nat) "PrinterClaims$Wish") ∈ lw_all := lw_g (lw_at lw_m4 180 rfl) rfl
theorem q1284 : (Jvm.Cond.instanceMethod ({ cls := "PrinterClaims$State", name := "isSafe", desc := "()Z" } : Jvm.MethodName)) ∈ lw_all := lw_g (lw_at lw_m5 226 rfl) rfl
theorem q1285 : (Jvm.Cond.selects "PrinterClaims$State" ({ cls := "PrinterClaims$State", name := "isSafe", desc := "()Z" } : Jvm.MethodName) ({ cls := "PrinterClaims$State", name := "isSafe", desc := "()Z" } : Jvm.MethodName)) ∈ lw_all := lw_g (lw_at lw_m5 227 rfl) rfl
theorem q1286 : (Jvm.Cond.code ({ cls := "PrinterClaims$State", name := "isSafe", desc := "()Z" } : Jvm.MethodName) prog_25_method_15_code (1 : Nat) (Option.some Jvm.ClassFile.FieldType.boolean)) ∈ lw_all := lw_g (lw_at lw_m5 228 rfl) rfl
theorem q1287 : (Jvm.Cond.classLink "PrinterClaims$State" (108 : Nat) "PrinterClaims$Sequence") ∈ lw_all := lw_g (lw_at lw_m5 229 rfl) rfl
theorem q1289 : (Jvm.Cond.methodLink "PrinterClaims$State" (110 : Nat) ({ cls := "PrinterClaims$Sequence", name := "<init>", desc := "(LPrinterClaims$State;I)V" } : Jvm.MethodName)) ∈ lw_all := lw_g (lw_at lw_m5 231 rfl) rfl
theorem q1324 : (Jvm.Cond.methodLink "PrinterClaims$State" (113 : Nat) ({ cls := "PrinterClaims$Sequence", name := "isWhole", desc := "()Z" } : Jvm.MethodName)) ∈ lw_all := lw_g (lw_at lw_m6 26 rfl) rfl
theorem q1404 : (Jvm.Cond.instanceMethod ({ cls := "PrinterClaims$State", name := "hasKind", desc := "(I)Z" } : Jvm.MethodName)) ∈ lw_all := lw_g (lw_at lw_m6 106 rfl) rfl
theorem q1405 : (Jvm.Cond.selects "PrinterClaims$State" ({ cls := "PrinterClaims$State", name := "hasKind", desc := "(I)Z" } : Jvm.MethodName) ({ cls := "PrinterClaims$State", name := "hasKind", desc := "(I)Z" } : Jvm.MethodName)) ∈ lw_all := lw_g (lw_at lw_m6 107 rfl) rfl
theorem q1406 : (Jvm.Cond.code ({ cls := "PrinterClaims$State", name := "hasKind", desc := "(I)Z" } : Jvm.MethodName) prog_25_method_4_code (2 : Nat) (Option.some Jvm.ClassFile.FieldType.boolean)) ∈ lw_all := lw_g (lw_at lw_m6 108 rfl) rfl
theorem q1407 : (Jvm.Cond.methodLinkNest "PrinterClaims$State" (76 : Nat) ({ cls := "PrinterClaims", name := "inRange", desc := "(III)Z" } : Jvm.MethodName) "PrinterClaims") ∈ lw_tbl := lw_at lw_m6 109 rfl
theorem q1438 : (Jvm.Cond.instanceMethod ({ cls := "PrinterClaims$State", name := "claimed", desc := "(I)I" } : Jvm.MethodName)) ∈ lw_all := lw_g (lw_at lw_m6 140 rfl) rfl
theorem q1439 : (Jvm.Cond.selects "PrinterClaims$State" ({ cls := "PrinterClaims$State", name := "claimed", desc := "(I)I" } : Jvm.MethodName) ({ cls := "PrinterClaims$State", name := "claimed", desc := "(I)I" } : Jvm.MethodName)) ∈ lw_all := lw_g (lw_at lw_m6 141 rfl) rfl
theorem q1440 : (Jvm.Cond.code ({ cls := "PrinterClaims$State", name := "claimed", desc := "(I)I" } : Jvm.MethodName) prog_25_method_13_code (4 : Nat) (Option.some Jvm.ClassFile.FieldType.int)) ∈ lw_all := lw_g (lw_at lw_m6 142 rfl) rfl
theorem q1457 : (Jvm.Cond.instanceMethod ({ cls := "PrinterClaims$State", name := "hasOffice", desc := "(I)Z" } : Jvm.MethodName)) ∈ lw_all := lw_g (lw_at lw_m6 159 rfl) rfl
theorem q1458 : (Jvm.Cond.selects "PrinterClaims$State" ({ cls := "PrinterClaims$State", name := "hasOffice", desc := "(I)Z" } : Jvm.MethodName) ({ cls := "PrinterClaims$State", name := "hasOffice", desc := "(I)Z" } : Jvm.MethodName)) ∈ lw_all := lw_g (lw_at lw_m6 160 rfl) rfl
theorem q1459 : (Jvm.Cond.code ({ cls := "PrinterClaims$State", name := "hasOffice", desc := "(I)Z" } : Jvm.MethodName) prog_25_method_5_code (2 : Nat) (Option.some Jvm.ClassFile.FieldType.boolean)) ∈ lw_all := lw_g (lw_at lw_m6 161 rfl) rfl
theorem q1490 : (Jvm.Cond.instanceMethod ({ cls := "PrinterClaims$State", name := "wishOf", desc := "(I)LPrinterClaims$Wish;" } : Jvm.MethodName)) ∈ lw_all := lw_g (lw_at lw_m6 192 rfl) rfl
theorem q1491 : (Jvm.Cond.selects "PrinterClaims$State" ({ cls := "PrinterClaims$State", name := "wishOf", desc := "(I)LPrinterClaims$Wish;" } : Jvm.MethodName) ({ cls := "PrinterClaims$State", name := "wishOf", desc := "(I)LPrinterClaims$Wish;" } : Jvm.MethodName)) ∈ lw_all := lw_g (lw_at lw_m6 193 rfl) rfl
theorem q1492 : (Jvm.Cond.code ({ cls := "PrinterClaims$State", name := "wishOf", desc := "(I)LPrinterClaims$Wish;" } : Jvm.MethodName) prog_25_method_22_code (3 : Nat) (Option.some (Jvm.ClassFile.FieldType.object "PrinterClaims$Wish"))) ∈ lw_all := lw_g (lw_at lw_m6 194 rfl) rfl
theorem q1493 : (Jvm.Cond.methodLink "PrinterClaims$State" (137 : Nat) ({ cls := "PrinterClaims$Wish", name := "office", desc := "()I" } : Jvm.MethodName)) ∈ lw_all := lw_g (lw_at lw_m6 195 rfl) rfl
theorem q1565 : (Jvm.Cond.instanceMethod ({ cls := "PrinterClaims$State", name := "obstacle", desc := "(III)I" } : Jvm.MethodName)) ∈ lw_all := lw_g (lw_at lw_m7 27 rfl) rfl
theorem q1566 : (Jvm.Cond.selects "PrinterClaims$State" ({ cls := "PrinterClaims$State", name := "obstacle", desc := "(III)I" } : Jvm.MethodName) ({ cls := "PrinterClaims$State", name := "obstacle", desc := "(III)I" } : Jvm.MethodName)) ∈ lw_all := lw_g (lw_at lw_m7 28 rfl) rfl
theorem q1567 : (Jvm.Cond.code ({ cls := "PrinterClaims$State", name := "obstacle", desc := "(III)I" } : Jvm.MethodName) prog_25_method_31_code (4 : Nat) (Option.some Jvm.ClassFile.FieldType.int)) ∈ lw_all := lw_g (lw_at lw_m7 29 rfl) rfl
theorem q1568 : (Jvm.Cond.methodLink "PrinterClaims$State" (173 : Nat) ({ cls := "PrinterClaims$State", name := "waits", desc := "(I)Z" } : Jvm.MethodName)) ∈ lw_all := lw_g (lw_at lw_m7 30 rfl) rfl
theorem q1569 : (Jvm.Cond.instanceMethod ({ cls := "PrinterClaims$State", name := "waits", desc := "(I)Z" } : Jvm.MethodName)) ∈ lw_all := lw_g (lw_at lw_m7 31 rfl) rfl
theorem q1570 : (Jvm.Cond.selects "PrinterClaims$State" ({ cls := "PrinterClaims$State", name := "waits", desc := "(I)Z" } : Jvm.MethodName) ({ cls := "PrinterClaims$State", name := "waits", desc := "(I)Z" } : Jvm.MethodName)) ∈ lw_all := lw_g (lw_at lw_m7 32 rfl) rfl
theorem q1571 : (Jvm.Cond.code ({ cls := "PrinterClaims$State", name := "waits", desc := "(I)Z" } : Jvm.MethodName) prog_25_method_23_code (2 : Nat) (Option.some Jvm.ClassFile.FieldType.boolean)) ∈ lw_all := lw_g (lw_at lw_m7 33 rfl) rfl
theorem q1572 : (Jvm.Cond.methodLink "PrinterClaims$State" (140 : Nat) ({ cls := "PrinterClaims$State", name := "wishOf", desc := "(I)LPrinterClaims$Wish;" } : Jvm.MethodName)) ∈ lw_all := lw_g (lw_at lw_m7 34 rfl) rfl
theorem q1573 : (Jvm.Cond.methodLink "PrinterClaims$State" (124 : Nat) ({ cls := "PrinterClaims$Office", name := "need", desc := "(I)I" } : Jvm.MethodName)) ∈ lw_all := lw_g (lw_at lw_m7 35 rfl) rfl
theorem q1574 : (Jvm.Cond.methodLink "PrinterClaims$State" (127 : Nat) ({ cls := "PrinterClaims$State", name := "canGrant", desc := "(III)Z" } : Jvm.MethodName)) ∈ lw_all := lw_g (lw_at lw_m7 36 rfl) rfl
theorem q1575 : (Jvm.Cond.instanceMethod ({ cls := "PrinterClaims$State", name := "canGrant", desc := "(III)Z" } : Jvm.MethodName)) ∈ lw_all := lw_g (lw_at lw_m7 37 rfl) rfl
theorem q1576 : (Jvm.Cond.selects "PrinterClaims$State" ({ cls := "PrinterClaims$State", name := "canGrant", desc := "(III)Z" } : Jvm.MethodName) ({ cls := "PrinterClaims$State", name := "canGrant", desc := "(III)Z" } : Jvm.MethodName)) ∈ lw_all := lw_g (lw_at lw_m7 38 rfl) rfl
theorem q1577 : (Jvm.Cond.codeWith ({ cls := "PrinterClaims$State", name := "canGrant", desc := "(III)Z" } : Jvm.MethodName) prog_25_method_17_code (6 : Nat) (Option.some Jvm.ClassFile.FieldType.boolean) [((18 : Nat), (24 : Nat), (35 : Nat), (0 : Nat)), ((35 : Nat), (37 : Nat), (35 : Nat), (0 : Nat))]) ∈ lw_all := lw_g (lw_at lw_m7 39 rfl) rfl
theorem q1578 : (Jvm.Cond.methodLink "PrinterClaims$State" (117 : Nat) ({ cls := "PrinterClaims$State", name := "move", desc := "(III)V" } : Jvm.MethodName)) ∈ lw_all := lw_g (lw_at lw_m7 40 rfl) rfl
theorem q1579 : (Jvm.Cond.privateMethod ({ cls := "PrinterClaims$State", name := "move", desc := "(III)V" } : Jvm.MethodName)) ∈ lw_tbl := lw_at lw_m7 41 rfl
theorem q1580 : (Jvm.Cond.instanceMethod ({ cls := "PrinterClaims$State", name := "move", desc := "(III)V" } : Jvm.MethodName)) ∈ lw_all := lw_g (lw_at lw_m7 42 rfl) rfl
theorem q1581 : (Jvm.Cond.code ({ cls := "PrinterClaims$State", name := "move", desc := "(III)V" } : Jvm.MethodName) prog_25_method_16_code (4 : Nat) (Option.none : Option Jvm.ClassFile.FieldType)) ∈ lw_all := lw_g (lw_at lw_m7 43 rfl) rfl
theorem q1582 : (Jvm.Cond.methodLink "PrinterClaims$State" (121 : Nat) ({ cls := "PrinterClaims$State", name := "isSafe", desc := "()Z" } : Jvm.MethodName)) ∈ lw_all := lw_g (lw_at lw_m7 44 rfl) rfl
theorem q1591 : (Jvm.Cond.instanceMethod ({ cls := "PrinterClaims$State", name := "greatestGrant", desc := "(II)I" } : Jvm.MethodName)) ∈ lw_all := lw_g (lw_at lw_m7 53 rfl) rfl
theorem q1592 : (Jvm.Cond.selects "PrinterClaims$State" ({ cls := "PrinterClaims$State", name := "greatestGrant", desc := "(II)I" } : Jvm.MethodName) ({ cls := "PrinterClaims$State", name := "greatestGrant", desc := "(II)I" } : Jvm.MethodName)) ∈ lw_all := lw_g (lw_at lw_m7 54 rfl) rfl
theorem q1593 : (Jvm.Cond.code ({ cls := "PrinterClaims$State", name := "greatestGrant", desc := "(II)I" } : Jvm.MethodName) prog_25_method_18_code (4 : Nat) (Option.some Jvm.ClassFile.FieldType.int)) ∈ lw_all := lw_g (lw_at lw_m7 55 rfl) rfl
theorem q1602 : (Jvm.Cond.instanceMethod ({ cls := "PrinterClaims$State", name := "spare", desc := "(I)I" } : Jvm.MethodName)) ∈ lw_all := lw_g (lw_at lw_m7 64 rfl) rfl
theorem q1603 : (Jvm.Cond.selects "PrinterClaims$State" ({ cls := "PrinterClaims$State", name := "spare", desc := "(I)I" } : Jvm.MethodName) ({ cls := "PrinterClaims$State", name := "spare", desc := "(I)I" } : Jvm.MethodName)) ∈ lw_all := lw_g (lw_at lw_m7 65 rfl) rfl
theorem q1604 : (Jvm.Cond.code ({ cls := "PrinterClaims$State", name := "spare", desc := "(I)I" } : Jvm.MethodName) prog_25_method_21_code (3 : Nat) (Option.some Jvm.ClassFile.FieldType.int)) ∈ lw_all := lw_g (lw_at lw_m7 66 rfl) rfl
theorem q1605 : (Jvm.Cond.methodLink "PrinterClaims$State" (133 : Nat) ({ cls := "PrinterClaims$State", name := "canRetire", desc := "(II)Z" } : Jvm.MethodName)) ∈ lw_all := lw_g (lw_at lw_m7 67 rfl) rfl
theorem q1606 : (Jvm.Cond.instanceMethod ({ cls := "PrinterClaims$State", name := "canRetire", desc := "(II)Z" } : Jvm.MethodName)) ∈ lw_all := lw_g (lw_at lw_m7 68 rfl) rfl
theorem q1607 : (Jvm.Cond.selects "PrinterClaims$State" ({ cls := "PrinterClaims$State", name := "canRetire", desc := "(II)Z" } : Jvm.MethodName) ({ cls := "PrinterClaims$State", name := "canRetire", desc := "(II)Z" } : Jvm.MethodName)) ∈ lw_all := lw_g (lw_at lw_m7 69 rfl) rfl
theorem q1608 : (Jvm.Cond.codeWith ({ cls := "PrinterClaims$State", name := "canRetire", desc := "(II)Z" } : Jvm.MethodName) prog_25_method_19_code (5 : Nat) (Option.some Jvm.ClassFile.FieldType.boolean) [((37 : Nat), (42 : Nat), (54 : Nat), (0 : Nat)), ((54 : Nat), (56 : Nat), (54 : Nat), (0 : Nat))]) ∈ lw_all := lw_g (lw_at lw_m7 70 rfl) rfl
theorem q1609 : (Jvm.Cond.methodLink "PrinterClaims$State" (130 : Nat) ({ cls := "PrinterClaims$State", name := "greatestClaim", desc := "(I)I" } : Jvm.MethodName)) ∈ lw_all := lw_g (lw_at lw_m7 71 rfl) rfl
theorem q1610 : (Jvm.Cond.instanceMethod ({ cls := "PrinterClaims$State", name := "greatestClaim", desc := "(I)I" } : Jvm.MethodName)) ∈ lw_all := lw_g (lw_at lw_m7 72 rfl) rfl
theorem q1611 : (Jvm.Cond.selects "PrinterClaims$State" ({ cls := "PrinterClaims$State", name := "greatestClaim", desc := "(I)I" } : Jvm.MethodName) ({ cls := "PrinterClaims$State", name := "greatestClaim", desc := "(I)I" } : Jvm.MethodName)) ∈ lw_all := lw_g (lw_at lw_m7 73 rfl) rfl
theorem q1612 : (Jvm.Cond.code ({ cls := "PrinterClaims$State", name := "greatestClaim", desc := "(I)I" } : Jvm.MethodName) prog_25_method_14_code (4 : Nat) (Option.some Jvm.ClassFile.FieldType.int)) ∈ lw_all := lw_g (lw_at lw_m7 74 rfl) rfl
theorem q1613 : (Jvm.Cond.methodLink "PrinterClaims$State" (102 : Nat) ({ cls := "java/lang/Math", name := "max", desc := "(II)I" } : Jvm.MethodName)) ∈ lw_all := lw_g (lw_at lw_m7 75 rfl) rfl
theorem q1622 : (Jvm.Cond.instanceMethod ({ cls := "PrinterClaims$State", name := "finish", desc := "(I)I" } : Jvm.MethodName)) ∈ lw_all := lw_g (lw_at lw_m7 84 rfl) rfl
theorem q1623 : (Jvm.Cond.selects "PrinterClaims$State" ({ cls := "PrinterClaims$State", name := "finish", desc := "(I)I" } : Jvm.MethodName) ({ cls := "PrinterClaims$State", name := "finish", desc := "(I)I" } : Jvm.MethodName)) ∈ lw_all := lw_g (lw_at lw_m7 85 rfl) rfl
theorem q1624 : (Jvm.Cond.code ({ cls := "PrinterClaims$State", name := "finish", desc := "(I)I" } : Jvm.MethodName) prog_25_method_30_code (3 : Nat) (Option.some Jvm.ClassFile.FieldType.int)) ∈ lw_all := lw_g (lw_at lw_m7 86 rfl) rfl
theorem q1625 : (Jvm.Cond.methodLink "PrinterClaims$State" (161 : Nat) ({ cls := "PrinterClaims$State", name := "drop", desc := "(I)V" } : Jvm.MethodName)) ∈ lw_all := lw_g (lw_at lw_m7 87 rfl) rfl
theorem q1626 : (Jvm.Cond.instanceMethod ({ cls := "PrinterClaims$State", name := "drop", desc := "(I)V" } : Jvm.MethodName)) ∈ lw_all := lw_g (lw_at lw_m7 88 rfl) rfl
theorem q1627 : (Jvm.Cond.selects "PrinterClaims$State" ({ cls := "PrinterClaims$State", name := "drop", desc := "(I)V" } : Jvm.MethodName) ({ cls := "PrinterClaims$State", name := "drop", desc := "(I)V" } : Jvm.MethodName)) ∈ lw_all := lw_g (lw_at lw_m7 89 rfl) rfl
theorem q1628 : (Jvm.Cond.code ({ cls := "PrinterClaims$State", name := "drop", desc := "(I)V" } : Jvm.MethodName) prog_25_method_24_code (4 : Nat) (Option.none : Option Jvm.ClassFile.FieldType)) ∈ lw_all := lw_g (lw_at lw_m7 90 rfl) rfl
theorem q1629 : (Jvm.Cond.interfaceEntry "PrinterClaims$State" (144 : Nat)) ∈ lw_tbl := lw_at lw_m7 91 rfl
theorem q1630 : (Jvm.Cond.methodLink "PrinterClaims$State" (144 : Nat) ({ cls := "java/util/List", name := "remove", desc := "(I)Ljava/lang/Object;" } : Jvm.MethodName)) ∈ lw_all := lw_g (lw_at lw_m7 92 rfl) rfl
theorem q1643 : (Jvm.Cond.methodLink "PrinterClaims$State" (167 : Nat) ({ cls := "PrinterClaims$State", name := "giveBack", desc := "(III)V" } : Jvm.MethodName)) ∈ lw_all := lw_g (lw_at lw_m7 105 rfl) rfl
theorem q1644 : (Jvm.Cond.instanceMethod ({ cls := "PrinterClaims$State", name := "giveBack", desc := "(III)V" } : Jvm.MethodName)) ∈ lw_all := lw_g (lw_at lw_m7 106 rfl) rfl
theorem q1645 : (Jvm.Cond.selects "PrinterClaims$State" ({ cls := "PrinterClaims$State", name := "giveBack", desc := "(III)V" } : Jvm.MethodName) ({ cls := "PrinterClaims$State", name := "giveBack", desc := "(III)V" } : Jvm.MethodName)) ∈ lw_all := lw_g (lw_at lw_m7 107 rfl) rfl
theorem q1646 : (Jvm.Cond.code ({ cls := "PrinterClaims$State", name := "giveBack", desc := "(III)V" } : Jvm.MethodName) prog_25_method_29_code (4 : Nat) (Option.none : Option Jvm.ClassFile.FieldType)) ∈ lw_all := lw_g (lw_at lw_m7 108 rfl) rfl
theorem q1647 : (Jvm.Cond.methodLink "PrinterClaims$State" (170 : Nat) ({ cls := "PrinterClaims$State", name := "serve", desc := "()I" } : Jvm.MethodName)) ∈ lw_all := lw_g (lw_at lw_m7 109 rfl) rfl
theorem q1648 : (Jvm.Cond.instanceMethod ({ cls := "PrinterClaims$State", name := "serve", desc := "()I" } : Jvm.MethodName)) ∈ lw_all := lw_g (lw_at lw_m7 110 rfl) rfl
theorem q1649 : (Jvm.Cond.selects "PrinterClaims$State" ({ cls := "PrinterClaims$State", name := "serve", desc := "()I" } : Jvm.MethodName) ({ cls := "PrinterClaims$State", name := "serve", desc := "()I" } : Jvm.MethodName)) ∈ lw_all := lw_g (lw_at lw_m7 111 rfl) rfl
theorem q1650 : (Jvm.Cond.code ({ cls := "PrinterClaims$State", name := "serve", desc := "()I" } : Jvm.MethodName) prog_25_method_28_code (3 : Nat) (Option.some Jvm.ClassFile.FieldType.int)) ∈ lw_all := lw_g (lw_at lw_m7 112 rfl) rfl
theorem q1651 : (Jvm.Cond.methodLink "PrinterClaims$State" (157 : Nat) ({ cls := "PrinterClaims$State", name := "firstToServe", desc := "()LPrinterClaims$Wish;" } : Jvm.MethodName)) ∈ lw_all := lw_g (lw_at lw_m7 113 rfl) rfl
theorem q1652 : (Jvm.Cond.privateMethod ({ cls := "PrinterClaims$State", name := "firstToServe", desc := "()LPrinterClaims$Wish;" } : Jvm.MethodName)) ∈ lw_tbl := lw_at lw_m7 114 rfl
theorem q1653 : (Jvm.Cond.instanceMethod ({ cls := "PrinterClaims$State", name := "firstToServe", desc := "()LPrinterClaims$Wish;" } : Jvm.MethodName)) ∈ lw_all := lw_g (lw_at lw_m7 115 rfl) rfl
theorem q1654 : (Jvm.Cond.code ({ cls := "PrinterClaims$State", name := "firstToServe", desc := "()LPrinterClaims$Wish;" } : Jvm.MethodName) prog_25_method_27_code (3 : Nat) (Option.some (Jvm.ClassFile.FieldType.object "PrinterClaims$Wish"))) ∈ lw_all := lw_g (lw_at lw_m7 116 rfl) rfl
theorem q1655 : (Jvm.Cond.methodLink "PrinterClaims$State" (147 : Nat) ({ cls := "PrinterClaims$Wish", name := "kind", desc := "()I" } : Jvm.MethodName)) ∈ lw_all := lw_g (lw_at lw_m7 117 rfl) rfl
theorem q1656 : (Jvm.Cond.methodLink "PrinterClaims$State" (150 : Nat) ({ cls := "PrinterClaims$Wish", name := "count", desc := "()I" } : Jvm.MethodName)) ∈ lw_all := lw_g (lw_at lw_m7 118 rfl) rfl
theorem q1657 : (Jvm.Cond.methodLink "PrinterClaims$State" (164 : Nat) ({ cls := "PrinterClaims$State", name := "grant", desc := "(III)V" } : Jvm.MethodName)) ∈ lw_all := lw_g (lw_at lw_m7 119 rfl) rfl
theorem q1658 : (Jvm.Cond.instanceMethod ({ cls := "PrinterClaims$State", name := "grant", desc := "(III)V" } : Jvm.MethodName)) ∈ lw_all := lw_g (lw_at lw_m7 120 rfl) rfl
theorem q1659 : (Jvm.Cond.selects "PrinterClaims$State" ({ cls := "PrinterClaims$State", name := "grant", desc := "(III)V" } : Jvm.MethodName) ({ cls := "PrinterClaims$State", name := "grant", desc := "(III)V" } : Jvm.MethodName)) ∈ lw_all := lw_g (lw_at lw_m7 121 rfl) rfl
theorem q1660 : (Jvm.Cond.code ({ cls := "PrinterClaims$State", name := "grant", desc := "(III)V" } : Jvm.MethodName) prog_25_method_25_code (4 : Nat) (Option.none : Option Jvm.ClassFile.FieldType)) ∈ lw_all := lw_g (lw_at lw_m7 122 rfl) rfl
theorem q1722 : (Jvm.Cond.instanceMethod ({ cls := "PrinterClaims$State", name := "has", desc := "(II)Z" } : Jvm.MethodName)) ∈ lw_all := lw_g (lw_at lw_m7 184 rfl) rfl
theorem q1723 : (Jvm.Cond.selects "PrinterClaims$State" ({ cls := "PrinterClaims$State", name := "has", desc := "(II)Z" } : Jvm.MethodName) ({ cls := "PrinterClaims$State", name := "has", desc := "(II)Z" } : Jvm.MethodName)) ∈ lw_all := lw_g (lw_at lw_m7 185 rfl) rfl
theorem q1724 : (Jvm.Cond.code ({ cls := "PrinterClaims$State", name := "has", desc := "(II)Z" } : Jvm.MethodName) prog_25_method_6_code (3 : Nat) (Option.some Jvm.ClassFile.FieldType.boolean)) ∈ lw_all := lw_g (lw_at lw_m7 186 rfl) rfl
theorem q1725 : (Jvm.Cond.methodLink "PrinterClaims$State" (80 : Nat) ({ cls := "PrinterClaims$State", name := "hasOffice", desc := "(I)Z" } : Jvm.MethodName)) ∈ lw_all := lw_g (lw_at lw_m7 187 rfl) rfl
theorem q1726 : (Jvm.Cond.methodLink "PrinterClaims$State" (84 : Nat) ({ cls := "PrinterClaims$State", name := "hasKind", desc := "(I)Z" } : Jvm.MethodName)) ∈ lw_all := lw_g (lw_at lw_m7 188 rfl) rfl
theorem q1787 : (Jvm.Cond.instanceMethod ({ cls := "PrinterClaims$State", name := "delay", desc := "(LPrinterClaims$Wish;)V" } : Jvm.MethodName)) ∈ lw_all := lw_g (lw_at lw_m8 9 rfl) rfl
theorem q1788 : (Jvm.Cond.selects "PrinterClaims$State" ({ cls := "PrinterClaims$State", name := "delay", desc := "(LPrinterClaims$Wish;)V" } : Jvm.MethodName) ({ cls := "PrinterClaims$State", name := "delay", desc := "(LPrinterClaims$Wish;)V" } : Jvm.MethodName)) ∈ lw_all := lw_g (lw_at lw_m8 10 rfl) rfl
theorem q1789 : (Jvm.Cond.code ({ cls := "PrinterClaims$State", name := "delay", desc := "(LPrinterClaims$Wish;)V" } : Jvm.MethodName) prog_25_method_26_code (2 : Nat) (Option.none : Option Jvm.ClassFile.FieldType)) ∈ lw_all := lw_g (lw_at lw_m8 11 rfl) rfl
theorem q1790 : (Jvm.Cond.methodLinkNest "PrinterClaims$State" (153 : Nat) ({ cls := "PrinterClaims", name := "bit", desc := "(Z)I" } : Jvm.MethodName) "PrinterClaims") ∈ lw_tbl := lw_at lw_m8 12 rfl
theorem q1810 : (Jvm.Cond.instanceMethod ({ cls := "PrinterClaims$State", name := "canClaim", desc := "(III)Z" } : Jvm.MethodName)) ∈ lw_all := lw_g (lw_at lw_m8 32 rfl) rfl
theorem q1811 : (Jvm.Cond.selects "PrinterClaims$State" ({ cls := "PrinterClaims$State", name := "canClaim", desc := "(III)Z" } : Jvm.MethodName) ({ cls := "PrinterClaims$State", name := "canClaim", desc := "(III)Z" } : Jvm.MethodName)) ∈ lw_all := lw_g (lw_at lw_m8 33 rfl) rfl
theorem q1812 : (Jvm.Cond.codeWith ({ cls := "PrinterClaims$State", name := "canClaim", desc := "(III)Z" } : Jvm.MethodName) prog_25_method_20_code (8 : Nat) (Option.some Jvm.ClassFile.FieldType.boolean) [((29 : Nat), (35 : Nat), (44 : Nat), (0 : Nat)), ((44 : Nat), (46 : Nat), (44 : Nat), (0 : Nat))]) ∈ lw_all := lw_g (lw_at lw_m8 34 rfl) rfl
theorem q2961 : (Jvm.Cond.castable "PrinterClaims$State" "java/lang/Object") ∈ lw_tbl := lw_at lw_m12 223 rfl
theorem in_X2 : ∀ w ∈ wsX20, w ∈ lw_all := lw_in wsX20 [569, 571, 573, 575, 577, 579, 581, 583, 585] (by decide +kernel) (by decide +kernel)

/-! PrinterClaims$Office -/
set_option maxRecDepth 100000
def RX3 : String := "PrinterClaims$Office"
def TX3 : u_T := fun k => match k with
  | 0 => ("PrinterClaims$Office", "claims", "[I", true)
  | _ => ("PrinterClaims$Office", "allocations", "[I", true)
def tyX3 : Nat → FieldType := fun k => match k with
  | 0 => .array .int
  | _ => .array .int
abbrev wsX30 : List Cond := u_ws RX3 TX3 2
theorem nmX3 : ∀ a, a < 2 → ∀ b, b < 2 → a ≠ b → (TX3 a).2.1 ≠ (TX3 b).2.1 := by decide +kernel
theorem tyX3_ok : ∀ k, k < 2 → parseFieldDescriptor (TX3 k).2.2.1 = some (tyX3 k) := by decide +kernel
abbrev cX3_init : ByteArray := prog_5_method_1_code
def yX3_init : MethodName := ⟨RX3, "<init>", "([I[I)V"⟩
def dkwX3_init_0 : List UInt8 := [42, 183, 0, 1, 42, 43, 181, 0, 7, 42, 44, 181, 0, 13, 177]
abbrev dktX3_init_0 : List UInt8 := dkwX3_init_0 ++ []
theorem dksX3_init_0 : cX3_init.data.toList.drop 0 = dktX3_init_0 := by decide +kernel
theorem dX3_init_0 : decode cX3_init 0 = .ok (.aload_n 0, 1) := dk_42 (dk_at dksX3_init_0 0 rfl rfl)
theorem dX3_init_1 : decode cX3_init 1 = .ok (.invokespecial 1, 3) := dk_183 0 1 (dk_at dksX3_init_0 1 rfl rfl)
theorem dX3_init_4 : decode cX3_init 4 = .ok (.aload_n 0, 1) := dk_42 (dk_at dksX3_init_0 4 rfl rfl)
theorem dX3_init_5 : decode cX3_init 5 = .ok (.aload_n 1, 1) := dk_43 (dk_at dksX3_init_0 5 rfl rfl)
theorem dX3_init_6 : decode cX3_init 6 = .ok (.putfield 7, 3) := dk_181 0 7 (dk_at dksX3_init_0 6 rfl rfl)
theorem dX3_init_9 : decode cX3_init 9 = .ok (.aload_n 0, 1) := dk_42 (dk_at dksX3_init_0 9 rfl rfl)
theorem dX3_init_10 : decode cX3_init 10 = .ok (.aload_n 2, 1) := dk_44 (dk_at dksX3_init_0 10 rfl rfl)
theorem dX3_init_11 : decode cX3_init 11 = .ok (.putfield 13, 3) := dk_181 0 13 (dk_at dksX3_init_0 11 rfl rfl)
theorem dX3_init_14 : decode cX3_init 14 = .ok (.return_, 1) := dk_177 (dk_at dksX3_init_0 14 rfl rfl)
abbrev cX3_fits : ByteArray := prog_5_method_4_code
def yX3_fits : MethodName := ⟨RX3, "fits", "([I)Z"⟩
def dkwX3_fits_1 : List UInt8 := [132, 2, 1, 167, 255, 231, 4, 172]
abbrev dktX3_fits_1 : List UInt8 := dkwX3_fits_1 ++ []
def dkwX3_fits_0 : List UInt8 := [3, 61, 28, 42, 180, 0, 7, 190, 162, 0, 22, 42, 28, 182, 0, 24, 43, 28, 46, 164, 0, 5, 3, 172]
abbrev dktX3_fits_0 : List UInt8 := dkwX3_fits_0 ++ dktX3_fits_1
theorem dksX3_fits_0 : cX3_fits.data.toList.drop 0 = dktX3_fits_0 := by decide +kernel
theorem dksX3_fits_1 : cX3_fits.data.toList.drop 24 = dktX3_fits_1 := dk_seg dksX3_fits_0 24 rfl rfl
theorem dX3_fits_0 : decode cX3_fits 0 = .ok (.iconst 0, 1) := dk_3 (dk_at dksX3_fits_0 0 rfl rfl)
theorem dX3_fits_1 : decode cX3_fits 1 = .ok (.istore_n 2, 1) := dk_61 (dk_at dksX3_fits_0 1 rfl rfl)
theorem dX3_fits_2 : decode cX3_fits 2 = .ok (.iload_n 2, 1) := dk_28 (dk_at dksX3_fits_0 2 rfl rfl)
theorem dX3_fits_3 : decode cX3_fits 3 = .ok (.aload_n 0, 1) := dk_42 (dk_at dksX3_fits_0 3 rfl rfl)
theorem dX3_fits_4 : decode cX3_fits 4 = .ok (.getfield 7, 3) := dk_180 0 7 (dk_at dksX3_fits_0 4 rfl rfl)
theorem dX3_fits_7 : decode cX3_fits 7 = .ok (.arraylength, 1) := dk_190 (dk_at dksX3_fits_0 7 rfl rfl)
theorem dX3_fits_8 : decode cX3_fits 8 = .ok (.if_icmp .ge 22, 3) := dk_162 0 22 (dk_at dksX3_fits_0 8 rfl rfl)
theorem dX3_fits_11 : decode cX3_fits 11 = .ok (.aload_n 0, 1) := dk_42 (dk_at dksX3_fits_0 11 rfl rfl)
theorem dX3_fits_12 : decode cX3_fits 12 = .ok (.iload_n 2, 1) := dk_28 (dk_at dksX3_fits_0 12 rfl rfl)
theorem dX3_fits_13 : decode cX3_fits 13 = .ok (.invokevirtual 24, 3) := dk_182 0 24 (dk_at dksX3_fits_0 13 rfl rfl)
theorem dX3_fits_16 : decode cX3_fits 16 = .ok (.aload_n 1, 1) := dk_43 (dk_at dksX3_fits_0 16 rfl rfl)
theorem dX3_fits_17 : decode cX3_fits 17 = .ok (.iload_n 2, 1) := dk_28 (dk_at dksX3_fits_0 17 rfl rfl)
theorem dX3_fits_18 : decode cX3_fits 18 = .ok (.iaload, 1) := dk_46 (dk_at dksX3_fits_0 18 rfl rfl)
theorem dX3_fits_19 : decode cX3_fits 19 = .ok (.if_icmp .le 5, 3) := dk_164 0 5 (dk_at dksX3_fits_0 19 rfl rfl)
theorem dX3_fits_22 : decode cX3_fits 22 = .ok (.iconst 0, 1) := dk_3 (dk_at dksX3_fits_0 22 rfl rfl)
theorem dX3_fits_23 : decode cX3_fits 23 = .ok (.ireturn, 1) := dk_172 (dk_at dksX3_fits_0 23 rfl rfl)
theorem dX3_fits_24 : decode cX3_fits 24 = .ok (.iinc 2 1, 3) := dk_132 2 1 (dk_at dksX3_fits_1 0 rfl rfl)
theorem dX3_fits_27 : decode cX3_fits 27 = .ok (.goto (-25), 3) := dk_167 255 231 (dk_at dksX3_fits_1 3 rfl rfl)
theorem dX3_fits_30 : decode cX3_fits 30 = .ok (.iconst 1, 1) := dk_4 (dk_at dksX3_fits_1 6 rfl rfl)
theorem dX3_fits_31 : decode cX3_fits 31 = .ok (.ireturn, 1) := dk_172 (dk_at dksX3_fits_1 7 rfl rfl)
abbrev cX3_need : ByteArray := prog_5_method_3_code
def yX3_need : MethodName := ⟨RX3, "need", "(I)I"⟩
def dkwX3_need_0 : List UInt8 := [42, 180, 0, 7, 27, 46, 42, 180, 0, 13, 27, 46, 100, 172]
abbrev dktX3_need_0 : List UInt8 := dkwX3_need_0 ++ []
theorem dksX3_need_0 : cX3_need.data.toList.drop 0 = dktX3_need_0 := by decide +kernel
theorem dX3_need_0 : decode cX3_need 0 = .ok (.aload_n 0, 1) := dk_42 (dk_at dksX3_need_0 0 rfl rfl)
theorem dX3_need_1 : decode cX3_need 1 = .ok (.getfield 7, 3) := dk_180 0 7 (dk_at dksX3_need_0 1 rfl rfl)
theorem dX3_need_4 : decode cX3_need 4 = .ok (.iload_n 1, 1) := dk_27 (dk_at dksX3_need_0 4 rfl rfl)
theorem dX3_need_5 : decode cX3_need 5 = .ok (.iaload, 1) := dk_46 (dk_at dksX3_need_0 5 rfl rfl)
theorem dX3_need_6 : decode cX3_need 6 = .ok (.aload_n 0, 1) := dk_42 (dk_at dksX3_need_0 6 rfl rfl)
theorem dX3_need_7 : decode cX3_need 7 = .ok (.getfield 13, 3) := dk_180 0 13 (dk_at dksX3_need_0 7 rfl rfl)
theorem dX3_need_10 : decode cX3_need 10 = .ok (.iload_n 1, 1) := dk_27 (dk_at dksX3_need_0 10 rfl rfl)
theorem dX3_need_11 : decode cX3_need 11 = .ok (.iaload, 1) := dk_46 (dk_at dksX3_need_0 11 rfl rfl)
theorem dX3_need_12 : decode cX3_need 12 = .ok (.isub, 1) := dk_100 (dk_at dksX3_need_0 12 rfl rfl)
theorem dX3_need_13 : decode cX3_need 13 = .ok (.ireturn, 1) := dk_172 (dk_at dksX3_need_0 13 rfl rfl)
abbrev cX3_needInAll : ByteArray := prog_5_method_6_code
def yX3_needInAll : MethodName := ⟨RX3, "needInAll", "()I"⟩
def dkwX3_needInAll_0 : List UInt8 := [42, 180, 0, 7, 184, 0, 28, 42, 180, 0, 13, 184, 0, 28, 100, 172]
abbrev dktX3_needInAll_0 : List UInt8 := dkwX3_needInAll_0 ++ []
theorem dksX3_needInAll_0 : cX3_needInAll.data.toList.drop 0 = dktX3_needInAll_0 := by decide +kernel
theorem dX3_needInAll_0 : decode cX3_needInAll 0 = .ok (.aload_n 0, 1) := dk_42 (dk_at dksX3_needInAll_0 0 rfl rfl)
theorem dX3_needInAll_1 : decode cX3_needInAll 1 = .ok (.getfield 7, 3) := dk_180 0 7 (dk_at dksX3_needInAll_0 1 rfl rfl)
theorem dX3_needInAll_4 : decode cX3_needInAll 4 = .ok (.invokestatic 28, 3) := dk_184 0 28 (dk_at dksX3_needInAll_0 4 rfl rfl)
theorem dX3_needInAll_7 : decode cX3_needInAll 7 = .ok (.aload_n 0, 1) := dk_42 (dk_at dksX3_needInAll_0 7 rfl rfl)
theorem dX3_needInAll_8 : decode cX3_needInAll 8 = .ok (.getfield 13, 3) := dk_180 0 13 (dk_at dksX3_needInAll_0 8 rfl rfl)
theorem dX3_needInAll_11 : decode cX3_needInAll 11 = .ok (.invokestatic 28, 3) := dk_184 0 28 (dk_at dksX3_needInAll_0 11 rfl rfl)
theorem dX3_needInAll_14 : decode cX3_needInAll 14 = .ok (.isub, 1) := dk_100 (dk_at dksX3_needInAll_0 14 rfl rfl)
theorem dX3_needInAll_15 : decode cX3_needInAll 15 = .ok (.ireturn, 1) := dk_172 (dk_at dksX3_needInAll_0 15 rfl rfl)
abbrev cX3_giveTo : ByteArray := prog_5_method_5_code
def yX3_giveTo : MethodName := ⟨RX3, "giveTo", "([I)V"⟩
def dkwX3_giveTo_1 : List UInt8 := [132, 2, 1, 167, 255, 232, 177]
abbrev dktX3_giveTo_1 : List UInt8 := dkwX3_giveTo_1 ++ []
def dkwX3_giveTo_0 : List UInt8 := [3, 61, 28, 42, 180, 0, 13, 190, 162, 0, 21, 43, 28, 92, 46, 42, 180, 0, 13, 28, 46, 96, 79]
abbrev dktX3_giveTo_0 : List UInt8 := dkwX3_giveTo_0 ++ dktX3_giveTo_1
theorem dksX3_giveTo_0 : cX3_giveTo.data.toList.drop 0 = dktX3_giveTo_0 := by decide +kernel
theorem dksX3_giveTo_1 : cX3_giveTo.data.toList.drop 23 = dktX3_giveTo_1 := dk_seg dksX3_giveTo_0 23 rfl rfl
theorem dX3_giveTo_0 : decode cX3_giveTo 0 = .ok (.iconst 0, 1) := dk_3 (dk_at dksX3_giveTo_0 0 rfl rfl)
theorem dX3_giveTo_1 : decode cX3_giveTo 1 = .ok (.istore_n 2, 1) := dk_61 (dk_at dksX3_giveTo_0 1 rfl rfl)
theorem dX3_giveTo_2 : decode cX3_giveTo 2 = .ok (.iload_n 2, 1) := dk_28 (dk_at dksX3_giveTo_0 2 rfl rfl)
theorem dX3_giveTo_3 : decode cX3_giveTo 3 = .ok (.aload_n 0, 1) := dk_42 (dk_at dksX3_giveTo_0 3 rfl rfl)
theorem dX3_giveTo_4 : decode cX3_giveTo 4 = .ok (.getfield 13, 3) := dk_180 0 13 (dk_at dksX3_giveTo_0 4 rfl rfl)
theorem dX3_giveTo_7 : decode cX3_giveTo 7 = .ok (.arraylength, 1) := dk_190 (dk_at dksX3_giveTo_0 7 rfl rfl)
theorem dX3_giveTo_8 : decode cX3_giveTo 8 = .ok (.if_icmp .ge 21, 3) := dk_162 0 21 (dk_at dksX3_giveTo_0 8 rfl rfl)
theorem dX3_giveTo_11 : decode cX3_giveTo 11 = .ok (.aload_n 1, 1) := dk_43 (dk_at dksX3_giveTo_0 11 rfl rfl)
theorem dX3_giveTo_12 : decode cX3_giveTo 12 = .ok (.iload_n 2, 1) := dk_28 (dk_at dksX3_giveTo_0 12 rfl rfl)
theorem dX3_giveTo_13 : decode cX3_giveTo 13 = .ok (.dup2, 1) := dk_92 (dk_at dksX3_giveTo_0 13 rfl rfl)
theorem dX3_giveTo_14 : decode cX3_giveTo 14 = .ok (.iaload, 1) := dk_46 (dk_at dksX3_giveTo_0 14 rfl rfl)
theorem dX3_giveTo_15 : decode cX3_giveTo 15 = .ok (.aload_n 0, 1) := dk_42 (dk_at dksX3_giveTo_0 15 rfl rfl)
theorem dX3_giveTo_16 : decode cX3_giveTo 16 = .ok (.getfield 13, 3) := dk_180 0 13 (dk_at dksX3_giveTo_0 16 rfl rfl)
theorem dX3_giveTo_19 : decode cX3_giveTo 19 = .ok (.iload_n 2, 1) := dk_28 (dk_at dksX3_giveTo_0 19 rfl rfl)
theorem dX3_giveTo_20 : decode cX3_giveTo 20 = .ok (.iaload, 1) := dk_46 (dk_at dksX3_giveTo_0 20 rfl rfl)
theorem dX3_giveTo_21 : decode cX3_giveTo 21 = .ok (.iadd, 1) := dk_96 (dk_at dksX3_giveTo_0 21 rfl rfl)
theorem dX3_giveTo_22 : decode cX3_giveTo 22 = .ok (.iastore, 1) := dk_79 (dk_at dksX3_giveTo_0 22 rfl rfl)
theorem dX3_giveTo_23 : decode cX3_giveTo 23 = .ok (.iinc 2 1, 3) := dk_132 2 1 (dk_at dksX3_giveTo_1 0 rfl rfl)
theorem dX3_giveTo_26 : decode cX3_giveTo 26 = .ok (.goto (-24), 3) := dk_167 255 232 (dk_at dksX3_giveTo_1 3 rfl rfl)
theorem dX3_giveTo_29 : decode cX3_giveTo 29 = .ok (.return_, 1) := dk_177 (dk_at dksX3_giveTo_1 6 rfl rfl)
abbrev cX3_copy : ByteArray := prog_5_method_2_code
def yX3_copy : MethodName := ⟨RX3, "copy", "()LPrinterClaims$Office;"⟩
def dkwX3_copy_1 : List UInt8 := [183, 0, 21, 176]
abbrev dktX3_copy_1 : List UInt8 := dkwX3_copy_1 ++ []
def dkwX3_copy_0 : List UInt8 := [187, 0, 8, 89, 42, 180, 0, 7, 182, 0, 16, 192, 0, 17, 42, 180, 0, 13, 182, 0, 16, 192, 0, 17]
abbrev dktX3_copy_0 : List UInt8 := dkwX3_copy_0 ++ dktX3_copy_1
theorem dksX3_copy_0 : cX3_copy.data.toList.drop 0 = dktX3_copy_0 := by decide +kernel
theorem dksX3_copy_1 : cX3_copy.data.toList.drop 24 = dktX3_copy_1 := dk_seg dksX3_copy_0 24 rfl rfl
theorem dX3_copy_0 : decode cX3_copy 0 = .ok (.new 8, 3) := dk_187 0 8 (dk_at dksX3_copy_0 0 rfl rfl)
theorem dX3_copy_3 : decode cX3_copy 3 = .ok (.dup, 1) := dk_89 (dk_at dksX3_copy_0 3 rfl rfl)
theorem dX3_copy_4 : decode cX3_copy 4 = .ok (.aload_n 0, 1) := dk_42 (dk_at dksX3_copy_0 4 rfl rfl)
theorem dX3_copy_5 : decode cX3_copy 5 = .ok (.getfield 7, 3) := dk_180 0 7 (dk_at dksX3_copy_0 5 rfl rfl)
theorem dX3_copy_8 : decode cX3_copy 8 = .ok (.invokevirtual 16, 3) := dk_182 0 16 (dk_at dksX3_copy_0 8 rfl rfl)
theorem dX3_copy_11 : decode cX3_copy 11 = .ok (.checkcast 17, 3) := dk_192 0 17 (dk_at dksX3_copy_0 11 rfl rfl)
theorem dX3_copy_14 : decode cX3_copy 14 = .ok (.aload_n 0, 1) := dk_42 (dk_at dksX3_copy_0 14 rfl rfl)
theorem dX3_copy_15 : decode cX3_copy 15 = .ok (.getfield 13, 3) := dk_180 0 13 (dk_at dksX3_copy_0 15 rfl rfl)
theorem dX3_copy_18 : decode cX3_copy 18 = .ok (.invokevirtual 16, 3) := dk_182 0 16 (dk_at dksX3_copy_0 18 rfl rfl)
theorem dX3_copy_21 : decode cX3_copy 21 = .ok (.checkcast 17, 3) := dk_192 0 17 (dk_at dksX3_copy_0 21 rfl rfl)
theorem dX3_copy_24 : decode cX3_copy 24 = .ok (.invokespecial 21, 3) := dk_183 0 21 (dk_at dksX3_copy_1 0 rfl rfl)
theorem dX3_copy_27 : decode cX3_copy 27 = .ok (.areturn, 1) := dk_176 (dk_at dksX3_copy_1 3 rfl rfl)
theorem q121 : (Jvm.Cond.initialized "PrinterClaims$Office") ∈ lw_all := lw_g (lw_at lw_m1 23 rfl) rfl
theorem q593 : (Jvm.Cond.instantiable "PrinterClaims$Office" (2 : Nat)) ∈ lw_all := lw_g (lw_at lw_m3 15 rfl) rfl
theorem q595 : (Jvm.Cond.instanceMethod ({ cls := "PrinterClaims$Office", name := "<init>", desc := "([I[I)V" } : Jvm.MethodName)) ∈ lw_all := lw_g (lw_at lw_m3 17 rfl) rfl
theorem q596 : (Jvm.Cond.code ({ cls := "PrinterClaims$Office", name := "<init>", desc := "([I[I)V" } : Jvm.MethodName) prog_5_method_1_code (3 : Nat) (Option.none : Option Jvm.ClassFile.FieldType)) ∈ lw_all := lw_g (lw_at lw_m3 18 rfl) rfl
theorem q597 : (Jvm.Cond.methodLink "PrinterClaims$Office" (1 : Nat) ({ cls := "java/lang/Object", name := "<init>", desc := "()V" } : Jvm.MethodName)) ∈ lw_all := lw_g (lw_at lw_m3 19 rfl) rfl
theorem q598 : (Jvm.Cond.fieldLink "PrinterClaims$Office" (7 : Nat) "PrinterClaims$Office" "claims" "[I") ∈ lw_all := lw_g (lw_at lw_m3 20 rfl) rfl
theorem q602 : (Jvm.Cond.fieldLink "PrinterClaims$Office" (13 : Nat) "PrinterClaims$Office" "allocations" "[I") ∈ lw_all := lw_g (lw_at lw_m3 24 rfl) rfl
theorem q607 : (Jvm.Cond.laysFinal "PrinterClaims$Office" "PrinterClaims$Office" "claims" "[I") ∈ lw_all := lw_g (lw_at lw_m3 29 rfl) rfl
theorem q608 : (Jvm.Cond.soleField "PrinterClaims$Office" "claims") ∈ lw_all := lw_g (lw_at lw_m3 30 rfl) rfl
theorem q609 : (Jvm.Cond.laysFinal "PrinterClaims$Office" "PrinterClaims$Office" "allocations" "[I") ∈ lw_all := lw_g (lw_at lw_m3 31 rfl) rfl
theorem q610 : (Jvm.Cond.soleField "PrinterClaims$Office" "allocations") ∈ lw_all := lw_g (lw_at lw_m3 32 rfl) rfl
theorem q611 : (Jvm.Cond.superclass "PrinterClaims$Office" "java/lang/Object") ∈ lw_all := lw_g (lw_at lw_m3 33 rfl) rfl
theorem q650 : (Jvm.Cond.selects "PrinterClaims$Office" ({ cls := "java/lang/Object", name := "getClass", desc := "()Ljava/lang/Class;" } : Jvm.MethodName) ({ cls := "java/lang/Object", name := "getClass", desc := "()Ljava/lang/Class;" } : Jvm.MethodName)) ∈ lw_all := lw_g (lw_at lw_m3 72 rfl) rfl
theorem q854 : (Jvm.Cond.instanceMethod ({ cls := "PrinterClaims$Office", name := "fits", desc := "([I)Z" } : Jvm.MethodName)) ∈ lw_all := lw_g (lw_at lw_m4 36 rfl) rfl
theorem q855 : (Jvm.Cond.selects "PrinterClaims$Office" ({ cls := "PrinterClaims$Office", name := "fits", desc := "([I)Z" } : Jvm.MethodName) ({ cls := "PrinterClaims$Office", name := "fits", desc := "([I)Z" } : Jvm.MethodName)) ∈ lw_all := lw_g (lw_at lw_m4 37 rfl) rfl
theorem q856 : (Jvm.Cond.code ({ cls := "PrinterClaims$Office", name := "fits", desc := "([I)Z" } : Jvm.MethodName) prog_5_method_4_code (3 : Nat) (Option.some Jvm.ClassFile.FieldType.boolean)) ∈ lw_all := lw_g (lw_at lw_m4 38 rfl) rfl
theorem q857 : (Jvm.Cond.methodLink "PrinterClaims$Office" (24 : Nat) ({ cls := "PrinterClaims$Office", name := "need", desc := "(I)I" } : Jvm.MethodName)) ∈ lw_all := lw_g (lw_at lw_m4 39 rfl) rfl
theorem q858 : (Jvm.Cond.instanceMethod ({ cls := "PrinterClaims$Office", name := "need", desc := "(I)I" } : Jvm.MethodName)) ∈ lw_all := lw_g (lw_at lw_m4 40 rfl) rfl
theorem q859 : (Jvm.Cond.selects "PrinterClaims$Office" ({ cls := "PrinterClaims$Office", name := "need", desc := "(I)I" } : Jvm.MethodName) ({ cls := "PrinterClaims$Office", name := "need", desc := "(I)I" } : Jvm.MethodName)) ∈ lw_all := lw_g (lw_at lw_m4 41 rfl) rfl
theorem q860 : (Jvm.Cond.code ({ cls := "PrinterClaims$Office", name := "need", desc := "(I)I" } : Jvm.MethodName) prog_5_method_3_code (2 : Nat) (Option.some Jvm.ClassFile.FieldType.int)) ∈ lw_all := lw_g (lw_at lw_m4 42 rfl) rfl
theorem q877 : (Jvm.Cond.instanceMethod ({ cls := "PrinterClaims$Office", name := "needInAll", desc := "()I" } : Jvm.MethodName)) ∈ lw_all := lw_g (lw_at lw_m4 59 rfl) rfl
theorem q878 : (Jvm.Cond.selects "PrinterClaims$Office" ({ cls := "PrinterClaims$Office", name := "needInAll", desc := "()I" } : Jvm.MethodName) ({ cls := "PrinterClaims$Office", name := "needInAll", desc := "()I" } : Jvm.MethodName)) ∈ lw_all := lw_g (lw_at lw_m4 60 rfl) rfl
theorem q879 : (Jvm.Cond.code ({ cls := "PrinterClaims$Office", name := "needInAll", desc := "()I" } : Jvm.MethodName) prog_5_method_6_code (1 : Nat) (Option.some Jvm.ClassFile.FieldType.int)) ∈ lw_all := lw_g (lw_at lw_m4 61 rfl) rfl
theorem q880 : (Jvm.Cond.methodLinkNest "PrinterClaims$Office" (28 : Nat) ({ cls := "PrinterClaims", name := "sum", desc := "([I)I" } : Jvm.MethodName) "PrinterClaims") ∈ lw_tbl := lw_at lw_m4 62 rfl
theorem q922 : (Jvm.Cond.instanceMethod ({ cls := "PrinterClaims$Office", name := "giveTo", desc := "([I)V" } : Jvm.MethodName)) ∈ lw_all := lw_g (lw_at lw_m4 104 rfl) rfl
theorem q923 : (Jvm.Cond.selects "PrinterClaims$Office" ({ cls := "PrinterClaims$Office", name := "giveTo", desc := "([I)V" } : Jvm.MethodName) ({ cls := "PrinterClaims$Office", name := "giveTo", desc := "([I)V" } : Jvm.MethodName)) ∈ lw_all := lw_g (lw_at lw_m4 105 rfl) rfl
theorem q924 : (Jvm.Cond.code ({ cls := "PrinterClaims$Office", name := "giveTo", desc := "([I)V" } : Jvm.MethodName) prog_5_method_5_code (3 : Nat) (Option.none : Option Jvm.ClassFile.FieldType)) ∈ lw_all := lw_g (lw_at lw_m4 106 rfl) rfl
theorem q991 : (Jvm.Cond.instanceMethod ({ cls := "PrinterClaims$Office", name := "copy", desc := "()LPrinterClaims$Office;" } : Jvm.MethodName)) ∈ lw_all := lw_g (lw_at lw_m4 173 rfl) rfl
theorem q992 : (Jvm.Cond.selects "PrinterClaims$Office" ({ cls := "PrinterClaims$Office", name := "copy", desc := "()LPrinterClaims$Office;" } : Jvm.MethodName) ({ cls := "PrinterClaims$Office", name := "copy", desc := "()LPrinterClaims$Office;" } : Jvm.MethodName)) ∈ lw_all := lw_g (lw_at lw_m4 174 rfl) rfl
theorem q993 : (Jvm.Cond.code ({ cls := "PrinterClaims$Office", name := "copy", desc := "()LPrinterClaims$Office;" } : Jvm.MethodName) prog_5_method_2_code (1 : Nat) (Option.some (Jvm.ClassFile.FieldType.object "PrinterClaims$Office"))) ∈ lw_all := lw_g (lw_at lw_m4 175 rfl) rfl
theorem q994 : (Jvm.Cond.classLink "PrinterClaims$Office" (8 : Nat) "PrinterClaims$Office") ∈ lw_all := lw_g (lw_at lw_m4 176 rfl) rfl
theorem q995 : (Jvm.Cond.methodLink "PrinterClaims$Office" (16 : Nat) ({ cls := "[I", name := "clone", desc := "()Ljava/lang/Object;" } : Jvm.MethodName)) ∈ lw_all := lw_g (lw_at lw_m4 177 rfl) rfl
theorem q996 : (Jvm.Cond.classLink "PrinterClaims$Office" (17 : Nat) "[I") ∈ lw_all := lw_g (lw_at lw_m4 178 rfl) rfl
theorem q997 : (Jvm.Cond.methodLink "PrinterClaims$Office" (21 : Nat) ({ cls := "PrinterClaims$Office", name := "<init>", desc := "([I[I)V" } : Jvm.MethodName)) ∈ lw_all := lw_g (lw_at lw_m4 179 rfl) rfl
theorem q2966 : (Jvm.Cond.castable "PrinterClaims$Office" "java/lang/Object") ∈ lw_tbl := lw_at lw_m12 228 rfl
theorem in_X3 : ∀ w ∈ wsX30, w ∈ lw_all := lw_in wsX30 [607, 609] (by decide +kernel) (by decide +kernel)

/-! PrinterClaims$Scanner -/
set_option maxRecDepth 100000
def RX5 : String := "PrinterClaims$Scanner"
abbrev cX5_init : ByteArray := prog_22_method_1_code
def yX5_init : MethodName := ⟨RX5, "<init>", "([BI)V"⟩
def dkwX5_init_1 : List UInt8 := [177]
abbrev dktX5_init_1 : List UInt8 := dkwX5_init_1 ++ []
def dkwX5_init_0 : List UInt8 := [42, 183, 0, 1, 42, 18, 7, 181, 0, 9, 42, 43, 181, 0, 15, 42, 28, 181, 0, 19, 42, 182, 0, 23]
abbrev dktX5_init_0 : List UInt8 := dkwX5_init_0 ++ dktX5_init_1
theorem dksX5_init_0 : cX5_init.data.toList.drop 0 = dktX5_init_0 := by decide +kernel
theorem dksX5_init_1 : cX5_init.data.toList.drop 24 = dktX5_init_1 := dk_seg dksX5_init_0 24 rfl rfl
theorem dX5_init_0 : decode cX5_init 0 = .ok (.aload_n 0, 1) := dk_42 (dk_at dksX5_init_0 0 rfl rfl)
theorem dX5_init_1 : decode cX5_init 1 = .ok (.invokespecial 1, 3) := dk_183 0 1 (dk_at dksX5_init_0 1 rfl rfl)
theorem dX5_init_4 : decode cX5_init 4 = .ok (.aload_n 0, 1) := dk_42 (dk_at dksX5_init_0 4 rfl rfl)
theorem dX5_init_5 : decode cX5_init 5 = .ok (.ldc 7, 2) := dk_18 7 (dk_at dksX5_init_0 5 rfl rfl)
theorem dX5_init_7 : decode cX5_init 7 = .ok (.putfield 9, 3) := dk_181 0 9 (dk_at dksX5_init_0 7 rfl rfl)
theorem dX5_init_10 : decode cX5_init 10 = .ok (.aload_n 0, 1) := dk_42 (dk_at dksX5_init_0 10 rfl rfl)
theorem dX5_init_11 : decode cX5_init 11 = .ok (.aload_n 1, 1) := dk_43 (dk_at dksX5_init_0 11 rfl rfl)
theorem dX5_init_12 : decode cX5_init 12 = .ok (.putfield 15, 3) := dk_181 0 15 (dk_at dksX5_init_0 12 rfl rfl)
theorem dX5_init_15 : decode cX5_init 15 = .ok (.aload_n 0, 1) := dk_42 (dk_at dksX5_init_0 15 rfl rfl)
theorem dX5_init_16 : decode cX5_init 16 = .ok (.iload_n 2, 1) := dk_28 (dk_at dksX5_init_0 16 rfl rfl)
theorem dX5_init_17 : decode cX5_init 17 = .ok (.putfield 19, 3) := dk_181 0 19 (dk_at dksX5_init_0 17 rfl rfl)
theorem dX5_init_20 : decode cX5_init 20 = .ok (.aload_n 0, 1) := dk_42 (dk_at dksX5_init_0 20 rfl rfl)
theorem dX5_init_21 : decode cX5_init 21 = .ok (.invokevirtual 23, 3) := dk_182 0 23 (dk_at dksX5_init_0 21 rfl rfl)
theorem dX5_init_24 : decode cX5_init 24 = .ok (.return_, 1) := dk_177 (dk_at dksX5_init_1 0 rfl rfl)
abbrev cX5_advance : ByteArray := prog_22_method_3_code
def yX5_advance : MethodName := ⟨RX5, "advance", "()V"⟩
def dkwX5_advance_7 : List UInt8 := [180, 0, 29, 51, 16, 59, 160, 0, 7, 6, 167, 0, 4, 7, 181, 0, 36, 177]
abbrev dktX5_advance_7 : List UInt8 := dkwX5_advance_7 ++ []
def dkwX5_advance_6 : List UInt8 := [181, 0, 47, 167, 0, 36, 42, 89, 180, 0, 26, 4, 96, 181, 0, 26, 42, 42, 180, 0, 15, 42]
abbrev dktX5_advance_6 : List UInt8 := dkwX5_advance_6 ++ dktX5_advance_7
def dkwX5_advance_5 : List UInt8 := [180, 0, 29, 16, 48, 16, 57, 182, 0, 32, 153, 0, 19, 42, 5, 181, 0, 36, 42, 42, 182, 0, 43]
abbrev dktX5_advance_5 : List UInt8 := dkwX5_advance_5 ++ dktX5_advance_6
def dkwX5_advance_4 : List UInt8 := [182, 0, 32, 153, 0, 19, 42, 4, 181, 0, 36, 42, 42, 182, 0, 39, 181, 0, 9, 167, 0, 67, 42, 42]
abbrev dktX5_advance_4 : List UInt8 := dkwX5_advance_4 ++ dktX5_advance_5
def dkwX5_advance_3 : List UInt8 := [180, 0, 19, 160, 0, 11, 42, 3, 181, 0, 36, 167, 0, 98, 42, 42, 180, 0, 29, 16, 97, 16, 122]
abbrev dktX5_advance_3 : List UInt8 := dkwX5_advance_3 ++ dktX5_advance_4
def dkwX5_advance_2 : List UInt8 := [167, 255, 216, 42, 42, 180, 0, 29, 181, 0, 26, 42, 18, 7, 181, 0, 9, 42, 180, 0, 29, 42]
abbrev dktX5_advance_2 : List UInt8 := dkwX5_advance_2 ++ dktX5_advance_3
def dkwX5_advance_1 : List UInt8 := [42, 180, 0, 29, 16, 10, 16, 10, 182, 0, 32, 153, 0, 16, 42, 89, 180, 0, 29, 4, 96, 181, 0, 29]
abbrev dktX5_advance_1 : List UInt8 := dkwX5_advance_1 ++ dktX5_advance_2
def dkwX5_advance_0 : List UInt8 := [42, 42, 180, 0, 26, 181, 0, 29, 42, 42, 180, 0, 29, 16, 32, 16, 32, 182, 0, 32, 154, 0, 18, 42]
abbrev dktX5_advance_0 : List UInt8 := dkwX5_advance_0 ++ dktX5_advance_1
theorem dksX5_advance_0 : cX5_advance.data.toList.drop 0 = dktX5_advance_0 := by decide +kernel
theorem dksX5_advance_1 : cX5_advance.data.toList.drop 24 = dktX5_advance_1 := dk_seg dksX5_advance_0 24 rfl rfl
theorem dksX5_advance_2 : cX5_advance.data.toList.drop 48 = dktX5_advance_2 := dk_seg dksX5_advance_1 24 rfl rfl
theorem dksX5_advance_3 : cX5_advance.data.toList.drop 70 = dktX5_advance_3 := dk_seg dksX5_advance_2 22 rfl rfl
theorem dksX5_advance_4 : cX5_advance.data.toList.drop 93 = dktX5_advance_4 := dk_seg dksX5_advance_3 23 rfl rfl
theorem dksX5_advance_5 : cX5_advance.data.toList.drop 117 = dktX5_advance_5 := dk_seg dksX5_advance_4 24 rfl rfl
theorem dksX5_advance_6 : cX5_advance.data.toList.drop 140 = dktX5_advance_6 := dk_seg dksX5_advance_5 23 rfl rfl
theorem dksX5_advance_7 : cX5_advance.data.toList.drop 162 = dktX5_advance_7 := dk_seg dksX5_advance_6 22 rfl rfl
theorem dX5_advance_0 : decode cX5_advance 0 = .ok (.aload_n 0, 1) := dk_42 (dk_at dksX5_advance_0 0 rfl rfl)
theorem dX5_advance_1 : decode cX5_advance 1 = .ok (.aload_n 0, 1) := dk_42 (dk_at dksX5_advance_0 1 rfl rfl)
theorem dX5_advance_2 : decode cX5_advance 2 = .ok (.getfield 26, 3) := dk_180 0 26 (dk_at dksX5_advance_0 2 rfl rfl)
theorem dX5_advance_5 : decode cX5_advance 5 = .ok (.putfield 29, 3) := dk_181 0 29 (dk_at dksX5_advance_0 5 rfl rfl)
theorem dX5_advance_8 : decode cX5_advance 8 = .ok (.aload_n 0, 1) := dk_42 (dk_at dksX5_advance_0 8 rfl rfl)
theorem dX5_advance_9 : decode cX5_advance 9 = .ok (.aload_n 0, 1) := dk_42 (dk_at dksX5_advance_0 9 rfl rfl)
theorem dX5_advance_10 : decode cX5_advance 10 = .ok (.getfield 29, 3) := dk_180 0 29 (dk_at dksX5_advance_0 10 rfl rfl)
theorem dX5_advance_13 : decode cX5_advance 13 = .ok (.bipush 32, 2) := dk_16 32 (dk_at dksX5_advance_0 13 rfl rfl)
theorem dX5_advance_15 : decode cX5_advance 15 = .ok (.bipush 32, 2) := dk_16 32 (dk_at dksX5_advance_0 15 rfl rfl)
theorem dX5_advance_17 : decode cX5_advance 17 = .ok (.invokevirtual 32, 3) := dk_182 0 32 (dk_at dksX5_advance_0 17 rfl rfl)
theorem dX5_advance_20 : decode cX5_advance 20 = .ok (.ifCond .ne 18, 3) := dk_154 0 18 (dk_at dksX5_advance_0 20 rfl rfl)
theorem dX5_advance_23 : decode cX5_advance 23 = .ok (.aload_n 0, 1) := dk_42 (dk_at dksX5_advance_0 23 rfl rfl)
theorem dX5_advance_24 : decode cX5_advance 24 = .ok (.aload_n 0, 1) := dk_42 (dk_at dksX5_advance_1 0 rfl rfl)
theorem dX5_advance_25 : decode cX5_advance 25 = .ok (.getfield 29, 3) := dk_180 0 29 (dk_at dksX5_advance_1 1 rfl rfl)
theorem dX5_advance_28 : decode cX5_advance 28 = .ok (.bipush 10, 2) := dk_16 10 (dk_at dksX5_advance_1 4 rfl rfl)
theorem dX5_advance_30 : decode cX5_advance 30 = .ok (.bipush 10, 2) := dk_16 10 (dk_at dksX5_advance_1 6 rfl rfl)
theorem dX5_advance_32 : decode cX5_advance 32 = .ok (.invokevirtual 32, 3) := dk_182 0 32 (dk_at dksX5_advance_1 8 rfl rfl)
theorem dX5_advance_35 : decode cX5_advance 35 = .ok (.ifCond .eq 16, 3) := dk_153 0 16 (dk_at dksX5_advance_1 11 rfl rfl)
theorem dX5_advance_38 : decode cX5_advance 38 = .ok (.aload_n 0, 1) := dk_42 (dk_at dksX5_advance_1 14 rfl rfl)
theorem dX5_advance_39 : decode cX5_advance 39 = .ok (.dup, 1) := dk_89 (dk_at dksX5_advance_1 15 rfl rfl)
theorem dX5_advance_40 : decode cX5_advance 40 = .ok (.getfield 29, 3) := dk_180 0 29 (dk_at dksX5_advance_1 16 rfl rfl)
theorem dX5_advance_43 : decode cX5_advance 43 = .ok (.iconst 1, 1) := dk_4 (dk_at dksX5_advance_1 19 rfl rfl)
theorem dX5_advance_44 : decode cX5_advance 44 = .ok (.iadd, 1) := dk_96 (dk_at dksX5_advance_1 20 rfl rfl)
theorem dX5_advance_45 : decode cX5_advance 45 = .ok (.putfield 29, 3) := dk_181 0 29 (dk_at dksX5_advance_1 21 rfl rfl)
theorem dX5_advance_48 : decode cX5_advance 48 = .ok (.goto (-40), 3) := dk_167 255 216 (dk_at dksX5_advance_2 0 rfl rfl)
theorem dX5_advance_51 : decode cX5_advance 51 = .ok (.aload_n 0, 1) := dk_42 (dk_at dksX5_advance_2 3 rfl rfl)
theorem dX5_advance_52 : decode cX5_advance 52 = .ok (.aload_n 0, 1) := dk_42 (dk_at dksX5_advance_2 4 rfl rfl)
theorem dX5_advance_53 : decode cX5_advance 53 = .ok (.getfield 29, 3) := dk_180 0 29 (dk_at dksX5_advance_2 5 rfl rfl)
theorem dX5_advance_56 : decode cX5_advance 56 = .ok (.putfield 26, 3) := dk_181 0 26 (dk_at dksX5_advance_2 8 rfl rfl)
theorem dX5_advance_59 : decode cX5_advance 59 = .ok (.aload_n 0, 1) := dk_42 (dk_at dksX5_advance_2 11 rfl rfl)
theorem dX5_advance_60 : decode cX5_advance 60 = .ok (.ldc 7, 2) := dk_18 7 (dk_at dksX5_advance_2 12 rfl rfl)
theorem dX5_advance_62 : decode cX5_advance 62 = .ok (.putfield 9, 3) := dk_181 0 9 (dk_at dksX5_advance_2 14 rfl rfl)
theorem dX5_advance_65 : decode cX5_advance 65 = .ok (.aload_n 0, 1) := dk_42 (dk_at dksX5_advance_2 17 rfl rfl)
theorem dX5_advance_66 : decode cX5_advance 66 = .ok (.getfield 29, 3) := dk_180 0 29 (dk_at dksX5_advance_2 18 rfl rfl)
theorem dX5_advance_69 : decode cX5_advance 69 = .ok (.aload_n 0, 1) := dk_42 (dk_at dksX5_advance_2 21 rfl rfl)
theorem dX5_advance_70 : decode cX5_advance 70 = .ok (.getfield 19, 3) := dk_180 0 19 (dk_at dksX5_advance_3 0 rfl rfl)
theorem dX5_advance_73 : decode cX5_advance 73 = .ok (.if_icmp .ne 11, 3) := dk_160 0 11 (dk_at dksX5_advance_3 3 rfl rfl)
theorem dX5_advance_76 : decode cX5_advance 76 = .ok (.aload_n 0, 1) := dk_42 (dk_at dksX5_advance_3 6 rfl rfl)
theorem dX5_advance_77 : decode cX5_advance 77 = .ok (.iconst 0, 1) := dk_3 (dk_at dksX5_advance_3 7 rfl rfl)
theorem dX5_advance_78 : decode cX5_advance 78 = .ok (.putfield 36, 3) := dk_181 0 36 (dk_at dksX5_advance_3 8 rfl rfl)
theorem dX5_advance_81 : decode cX5_advance 81 = .ok (.goto 98, 3) := dk_167 0 98 (dk_at dksX5_advance_3 11 rfl rfl)
theorem dX5_advance_84 : decode cX5_advance 84 = .ok (.aload_n 0, 1) := dk_42 (dk_at dksX5_advance_3 14 rfl rfl)
theorem dX5_advance_85 : decode cX5_advance 85 = .ok (.aload_n 0, 1) := dk_42 (dk_at dksX5_advance_3 15 rfl rfl)
theorem dX5_advance_86 : decode cX5_advance 86 = .ok (.getfield 29, 3) := dk_180 0 29 (dk_at dksX5_advance_3 16 rfl rfl)
theorem dX5_advance_89 : decode cX5_advance 89 = .ok (.bipush 97, 2) := dk_16 97 (dk_at dksX5_advance_3 19 rfl rfl)
theorem dX5_advance_91 : decode cX5_advance 91 = .ok (.bipush 122, 2) := dk_16 122 (dk_at dksX5_advance_3 21 rfl rfl)
theorem dX5_advance_93 : decode cX5_advance 93 = .ok (.invokevirtual 32, 3) := dk_182 0 32 (dk_at dksX5_advance_4 0 rfl rfl)
theorem dX5_advance_96 : decode cX5_advance 96 = .ok (.ifCond .eq 19, 3) := dk_153 0 19 (dk_at dksX5_advance_4 3 rfl rfl)
theorem dX5_advance_99 : decode cX5_advance 99 = .ok (.aload_n 0, 1) := dk_42 (dk_at dksX5_advance_4 6 rfl rfl)
theorem dX5_advance_100 : decode cX5_advance 100 = .ok (.iconst 1, 1) := dk_4 (dk_at dksX5_advance_4 7 rfl rfl)
theorem dX5_advance_101 : decode cX5_advance 101 = .ok (.putfield 36, 3) := dk_181 0 36 (dk_at dksX5_advance_4 8 rfl rfl)
theorem dX5_advance_104 : decode cX5_advance 104 = .ok (.aload_n 0, 1) := dk_42 (dk_at dksX5_advance_4 11 rfl rfl)
theorem dX5_advance_105 : decode cX5_advance 105 = .ok (.aload_n 0, 1) := dk_42 (dk_at dksX5_advance_4 12 rfl rfl)
theorem dX5_advance_106 : decode cX5_advance 106 = .ok (.invokevirtual 39, 3) := dk_182 0 39 (dk_at dksX5_advance_4 13 rfl rfl)
theorem dX5_advance_109 : decode cX5_advance 109 = .ok (.putfield 9, 3) := dk_181 0 9 (dk_at dksX5_advance_4 16 rfl rfl)
theorem dX5_advance_112 : decode cX5_advance 112 = .ok (.goto 67, 3) := dk_167 0 67 (dk_at dksX5_advance_4 19 rfl rfl)
theorem dX5_advance_115 : decode cX5_advance 115 = .ok (.aload_n 0, 1) := dk_42 (dk_at dksX5_advance_4 22 rfl rfl)
theorem dX5_advance_116 : decode cX5_advance 116 = .ok (.aload_n 0, 1) := dk_42 (dk_at dksX5_advance_4 23 rfl rfl)
theorem dX5_advance_117 : decode cX5_advance 117 = .ok (.getfield 29, 3) := dk_180 0 29 (dk_at dksX5_advance_5 0 rfl rfl)
theorem dX5_advance_120 : decode cX5_advance 120 = .ok (.bipush 48, 2) := dk_16 48 (dk_at dksX5_advance_5 3 rfl rfl)
theorem dX5_advance_122 : decode cX5_advance 122 = .ok (.bipush 57, 2) := dk_16 57 (dk_at dksX5_advance_5 5 rfl rfl)
theorem dX5_advance_124 : decode cX5_advance 124 = .ok (.invokevirtual 32, 3) := dk_182 0 32 (dk_at dksX5_advance_5 7 rfl rfl)
theorem dX5_advance_127 : decode cX5_advance 127 = .ok (.ifCond .eq 19, 3) := dk_153 0 19 (dk_at dksX5_advance_5 10 rfl rfl)
theorem dX5_advance_130 : decode cX5_advance 130 = .ok (.aload_n 0, 1) := dk_42 (dk_at dksX5_advance_5 13 rfl rfl)
theorem dX5_advance_131 : decode cX5_advance 131 = .ok (.iconst 2, 1) := dk_5 (dk_at dksX5_advance_5 14 rfl rfl)
theorem dX5_advance_132 : decode cX5_advance 132 = .ok (.putfield 36, 3) := dk_181 0 36 (dk_at dksX5_advance_5 15 rfl rfl)
theorem dX5_advance_135 : decode cX5_advance 135 = .ok (.aload_n 0, 1) := dk_42 (dk_at dksX5_advance_5 18 rfl rfl)
theorem dX5_advance_136 : decode cX5_advance 136 = .ok (.aload_n 0, 1) := dk_42 (dk_at dksX5_advance_5 19 rfl rfl)
theorem dX5_advance_137 : decode cX5_advance 137 = .ok (.invokevirtual 43, 3) := dk_182 0 43 (dk_at dksX5_advance_5 20 rfl rfl)
theorem dX5_advance_140 : decode cX5_advance 140 = .ok (.putfield 47, 3) := dk_181 0 47 (dk_at dksX5_advance_6 0 rfl rfl)
theorem dX5_advance_143 : decode cX5_advance 143 = .ok (.goto 36, 3) := dk_167 0 36 (dk_at dksX5_advance_6 3 rfl rfl)
theorem dX5_advance_146 : decode cX5_advance 146 = .ok (.aload_n 0, 1) := dk_42 (dk_at dksX5_advance_6 6 rfl rfl)
theorem dX5_advance_147 : decode cX5_advance 147 = .ok (.dup, 1) := dk_89 (dk_at dksX5_advance_6 7 rfl rfl)
theorem dX5_advance_148 : decode cX5_advance 148 = .ok (.getfield 26, 3) := dk_180 0 26 (dk_at dksX5_advance_6 8 rfl rfl)
theorem dX5_advance_151 : decode cX5_advance 151 = .ok (.iconst 1, 1) := dk_4 (dk_at dksX5_advance_6 11 rfl rfl)
theorem dX5_advance_152 : decode cX5_advance 152 = .ok (.iadd, 1) := dk_96 (dk_at dksX5_advance_6 12 rfl rfl)
theorem dX5_advance_153 : decode cX5_advance 153 = .ok (.putfield 26, 3) := dk_181 0 26 (dk_at dksX5_advance_6 13 rfl rfl)
theorem dX5_advance_156 : decode cX5_advance 156 = .ok (.aload_n 0, 1) := dk_42 (dk_at dksX5_advance_6 16 rfl rfl)
theorem dX5_advance_157 : decode cX5_advance 157 = .ok (.aload_n 0, 1) := dk_42 (dk_at dksX5_advance_6 17 rfl rfl)
theorem dX5_advance_158 : decode cX5_advance 158 = .ok (.getfield 15, 3) := dk_180 0 15 (dk_at dksX5_advance_6 18 rfl rfl)
theorem dX5_advance_161 : decode cX5_advance 161 = .ok (.aload_n 0, 1) := dk_42 (dk_at dksX5_advance_6 21 rfl rfl)
theorem dX5_advance_162 : decode cX5_advance 162 = .ok (.getfield 29, 3) := dk_180 0 29 (dk_at dksX5_advance_7 0 rfl rfl)
theorem dX5_advance_165 : decode cX5_advance 165 = .ok (.baload, 1) := dk_51 (dk_at dksX5_advance_7 3 rfl rfl)
theorem dX5_advance_166 : decode cX5_advance 166 = .ok (.bipush 59, 2) := dk_16 59 (dk_at dksX5_advance_7 4 rfl rfl)
theorem dX5_advance_168 : decode cX5_advance 168 = .ok (.if_icmp .ne 7, 3) := dk_160 0 7 (dk_at dksX5_advance_7 6 rfl rfl)
theorem dX5_advance_171 : decode cX5_advance 171 = .ok (.iconst 3, 1) := dk_6 (dk_at dksX5_advance_7 9 rfl rfl)
theorem dX5_advance_172 : decode cX5_advance 172 = .ok (.goto 4, 3) := dk_167 0 4 (dk_at dksX5_advance_7 10 rfl rfl)
theorem dX5_advance_175 : decode cX5_advance 175 = .ok (.iconst 4, 1) := dk_7 (dk_at dksX5_advance_7 13 rfl rfl)
theorem dX5_advance_176 : decode cX5_advance 176 = .ok (.putfield 36, 3) := dk_181 0 36 (dk_at dksX5_advance_7 14 rfl rfl)
theorem dX5_advance_179 : decode cX5_advance 179 = .ok (.return_, 1) := dk_177 (dk_at dksX5_advance_7 17 rfl rfl)
abbrev cX5_isBetween : ByteArray := prog_22_method_2_code
def yX5_isBetween : MethodName := ⟨RX5, "isBetween", "(III)Z"⟩
def dkwX5_isBetween_1 : List UInt8 := [29, 163, 0, 7, 4, 167, 0, 4, 3, 172]
abbrev dktX5_isBetween_1 : List UInt8 := dkwX5_isBetween_1 ++ []
def dkwX5_isBetween_0 : List UInt8 := [27, 42, 180, 0, 19, 162, 0, 27, 42, 180, 0, 15, 27, 51, 28, 161, 0, 17, 42, 180, 0, 15, 27, 51]
abbrev dktX5_isBetween_0 : List UInt8 := dkwX5_isBetween_0 ++ dktX5_isBetween_1
theorem dksX5_isBetween_0 : cX5_isBetween.data.toList.drop 0 = dktX5_isBetween_0 := by decide +kernel
theorem dksX5_isBetween_1 : cX5_isBetween.data.toList.drop 24 = dktX5_isBetween_1 := dk_seg dksX5_isBetween_0 24 rfl rfl
theorem dX5_isBetween_0 : decode cX5_isBetween 0 = .ok (.iload_n 1, 1) := dk_27 (dk_at dksX5_isBetween_0 0 rfl rfl)
theorem dX5_isBetween_1 : decode cX5_isBetween 1 = .ok (.aload_n 0, 1) := dk_42 (dk_at dksX5_isBetween_0 1 rfl rfl)
theorem dX5_isBetween_2 : decode cX5_isBetween 2 = .ok (.getfield 19, 3) := dk_180 0 19 (dk_at dksX5_isBetween_0 2 rfl rfl)
theorem dX5_isBetween_5 : decode cX5_isBetween 5 = .ok (.if_icmp .ge 27, 3) := dk_162 0 27 (dk_at dksX5_isBetween_0 5 rfl rfl)
theorem dX5_isBetween_8 : decode cX5_isBetween 8 = .ok (.aload_n 0, 1) := dk_42 (dk_at dksX5_isBetween_0 8 rfl rfl)
theorem dX5_isBetween_9 : decode cX5_isBetween 9 = .ok (.getfield 15, 3) := dk_180 0 15 (dk_at dksX5_isBetween_0 9 rfl rfl)
theorem dX5_isBetween_12 : decode cX5_isBetween 12 = .ok (.iload_n 1, 1) := dk_27 (dk_at dksX5_isBetween_0 12 rfl rfl)
theorem dX5_isBetween_13 : decode cX5_isBetween 13 = .ok (.baload, 1) := dk_51 (dk_at dksX5_isBetween_0 13 rfl rfl)
theorem dX5_isBetween_14 : decode cX5_isBetween 14 = .ok (.iload_n 2, 1) := dk_28 (dk_at dksX5_isBetween_0 14 rfl rfl)
theorem dX5_isBetween_15 : decode cX5_isBetween 15 = .ok (.if_icmp .lt 17, 3) := dk_161 0 17 (dk_at dksX5_isBetween_0 15 rfl rfl)
theorem dX5_isBetween_18 : decode cX5_isBetween 18 = .ok (.aload_n 0, 1) := dk_42 (dk_at dksX5_isBetween_0 18 rfl rfl)
theorem dX5_isBetween_19 : decode cX5_isBetween 19 = .ok (.getfield 15, 3) := dk_180 0 15 (dk_at dksX5_isBetween_0 19 rfl rfl)
theorem dX5_isBetween_22 : decode cX5_isBetween 22 = .ok (.iload_n 1, 1) := dk_27 (dk_at dksX5_isBetween_0 22 rfl rfl)
theorem dX5_isBetween_23 : decode cX5_isBetween 23 = .ok (.baload, 1) := dk_51 (dk_at dksX5_isBetween_0 23 rfl rfl)
theorem dX5_isBetween_24 : decode cX5_isBetween 24 = .ok (.iload_n 3, 1) := dk_29 (dk_at dksX5_isBetween_1 0 rfl rfl)
theorem dX5_isBetween_25 : decode cX5_isBetween 25 = .ok (.if_icmp .gt 7, 3) := dk_163 0 7 (dk_at dksX5_isBetween_1 1 rfl rfl)
theorem dX5_isBetween_28 : decode cX5_isBetween 28 = .ok (.iconst 1, 1) := dk_4 (dk_at dksX5_isBetween_1 4 rfl rfl)
theorem dX5_isBetween_29 : decode cX5_isBetween 29 = .ok (.goto 4, 3) := dk_167 0 4 (dk_at dksX5_isBetween_1 5 rfl rfl)
theorem dX5_isBetween_32 : decode cX5_isBetween 32 = .ok (.iconst 0, 1) := dk_3 (dk_at dksX5_isBetween_1 8 rfl rfl)
theorem dX5_isBetween_33 : decode cX5_isBetween 33 = .ok (.ireturn, 1) := dk_172 (dk_at dksX5_isBetween_1 9 rfl rfl)
abbrev cX5_letters : ByteArray := prog_22_method_4_code
def yX5_letters : MethodName := ⟨RX5, "letters", "()Ljava/lang/String;"⟩
def dkwX5_letters_2 : List UInt8 := [89, 180, 0, 26, 4, 96, 181, 0, 26, 167, 255, 207, 43, 182, 0, 60, 176]
abbrev dktX5_letters_2 : List UInt8 := dkwX5_letters_2 ++ []
def dkwX5_letters_1 : List UInt8 := [182, 0, 53, 16, 9, 162, 0, 18, 43, 42, 180, 0, 15, 42, 180, 0, 26, 51, 146, 182, 0, 56, 87, 42]
abbrev dktX5_letters_1 : List UInt8 := dkwX5_letters_1 ++ dktX5_letters_2
def dkwX5_letters_0 : List UInt8 := [187, 0, 50, 89, 183, 0, 52, 76, 42, 42, 180, 0, 26, 16, 97, 16, 122, 182, 0, 32, 153, 0, 40, 43]
abbrev dktX5_letters_0 : List UInt8 := dkwX5_letters_0 ++ dktX5_letters_1
theorem dksX5_letters_0 : cX5_letters.data.toList.drop 0 = dktX5_letters_0 := by decide +kernel
theorem dksX5_letters_1 : cX5_letters.data.toList.drop 24 = dktX5_letters_1 := dk_seg dksX5_letters_0 24 rfl rfl
theorem dksX5_letters_2 : cX5_letters.data.toList.drop 48 = dktX5_letters_2 := dk_seg dksX5_letters_1 24 rfl rfl
theorem dX5_letters_0 : decode cX5_letters 0 = .ok (.new 50, 3) := dk_187 0 50 (dk_at dksX5_letters_0 0 rfl rfl)
theorem dX5_letters_3 : decode cX5_letters 3 = .ok (.dup, 1) := dk_89 (dk_at dksX5_letters_0 3 rfl rfl)
theorem dX5_letters_4 : decode cX5_letters 4 = .ok (.invokespecial 52, 3) := dk_183 0 52 (dk_at dksX5_letters_0 4 rfl rfl)
theorem dX5_letters_7 : decode cX5_letters 7 = .ok (.astore_n 1, 1) := dk_76 (dk_at dksX5_letters_0 7 rfl rfl)
theorem dX5_letters_8 : decode cX5_letters 8 = .ok (.aload_n 0, 1) := dk_42 (dk_at dksX5_letters_0 8 rfl rfl)
theorem dX5_letters_9 : decode cX5_letters 9 = .ok (.aload_n 0, 1) := dk_42 (dk_at dksX5_letters_0 9 rfl rfl)
theorem dX5_letters_10 : decode cX5_letters 10 = .ok (.getfield 26, 3) := dk_180 0 26 (dk_at dksX5_letters_0 10 rfl rfl)
theorem dX5_letters_13 : decode cX5_letters 13 = .ok (.bipush 97, 2) := dk_16 97 (dk_at dksX5_letters_0 13 rfl rfl)
theorem dX5_letters_15 : decode cX5_letters 15 = .ok (.bipush 122, 2) := dk_16 122 (dk_at dksX5_letters_0 15 rfl rfl)
theorem dX5_letters_17 : decode cX5_letters 17 = .ok (.invokevirtual 32, 3) := dk_182 0 32 (dk_at dksX5_letters_0 17 rfl rfl)
theorem dX5_letters_20 : decode cX5_letters 20 = .ok (.ifCond .eq 40, 3) := dk_153 0 40 (dk_at dksX5_letters_0 20 rfl rfl)
theorem dX5_letters_23 : decode cX5_letters 23 = .ok (.aload_n 1, 1) := dk_43 (dk_at dksX5_letters_0 23 rfl rfl)
theorem dX5_letters_24 : decode cX5_letters 24 = .ok (.invokevirtual 53, 3) := dk_182 0 53 (dk_at dksX5_letters_1 0 rfl rfl)
theorem dX5_letters_27 : decode cX5_letters 27 = .ok (.bipush 9, 2) := dk_16 9 (dk_at dksX5_letters_1 3 rfl rfl)
theorem dX5_letters_29 : decode cX5_letters 29 = .ok (.if_icmp .ge 18, 3) := dk_162 0 18 (dk_at dksX5_letters_1 5 rfl rfl)
theorem dX5_letters_32 : decode cX5_letters 32 = .ok (.aload_n 1, 1) := dk_43 (dk_at dksX5_letters_1 8 rfl rfl)
theorem dX5_letters_33 : decode cX5_letters 33 = .ok (.aload_n 0, 1) := dk_42 (dk_at dksX5_letters_1 9 rfl rfl)
theorem dX5_letters_34 : decode cX5_letters 34 = .ok (.getfield 15, 3) := dk_180 0 15 (dk_at dksX5_letters_1 10 rfl rfl)
theorem dX5_letters_37 : decode cX5_letters 37 = .ok (.aload_n 0, 1) := dk_42 (dk_at dksX5_letters_1 13 rfl rfl)
theorem dX5_letters_38 : decode cX5_letters 38 = .ok (.getfield 26, 3) := dk_180 0 26 (dk_at dksX5_letters_1 14 rfl rfl)
theorem dX5_letters_41 : decode cX5_letters 41 = .ok (.baload, 1) := dk_51 (dk_at dksX5_letters_1 17 rfl rfl)
theorem dX5_letters_42 : decode cX5_letters 42 = .ok (.i2c, 1) := dk_146 (dk_at dksX5_letters_1 18 rfl rfl)
theorem dX5_letters_43 : decode cX5_letters 43 = .ok (.invokevirtual 56, 3) := dk_182 0 56 (dk_at dksX5_letters_1 19 rfl rfl)
theorem dX5_letters_46 : decode cX5_letters 46 = .ok (.pop, 1) := dk_87 (dk_at dksX5_letters_1 22 rfl rfl)
theorem dX5_letters_47 : decode cX5_letters 47 = .ok (.aload_n 0, 1) := dk_42 (dk_at dksX5_letters_1 23 rfl rfl)
theorem dX5_letters_48 : decode cX5_letters 48 = .ok (.dup, 1) := dk_89 (dk_at dksX5_letters_2 0 rfl rfl)
theorem dX5_letters_49 : decode cX5_letters 49 = .ok (.getfield 26, 3) := dk_180 0 26 (dk_at dksX5_letters_2 1 rfl rfl)
theorem dX5_letters_52 : decode cX5_letters 52 = .ok (.iconst 1, 1) := dk_4 (dk_at dksX5_letters_2 4 rfl rfl)
theorem dX5_letters_53 : decode cX5_letters 53 = .ok (.iadd, 1) := dk_96 (dk_at dksX5_letters_2 5 rfl rfl)
theorem dX5_letters_54 : decode cX5_letters 54 = .ok (.putfield 26, 3) := dk_181 0 26 (dk_at dksX5_letters_2 6 rfl rfl)
theorem dX5_letters_57 : decode cX5_letters 57 = .ok (.goto (-49), 3) := dk_167 255 207 (dk_at dksX5_letters_2 9 rfl rfl)
theorem dX5_letters_60 : decode cX5_letters 60 = .ok (.aload_n 1, 1) := dk_43 (dk_at dksX5_letters_2 12 rfl rfl)
theorem dX5_letters_61 : decode cX5_letters 61 = .ok (.invokevirtual 60, 3) := dk_182 0 60 (dk_at dksX5_letters_2 13 rfl rfl)
theorem dX5_letters_64 : decode cX5_letters 64 = .ok (.areturn, 1) := dk_176 (dk_at dksX5_letters_2 16 rfl rfl)
abbrev cX5_digits : ByteArray := prog_22_method_5_code
def yX5_digits : MethodName := ⟨RX5, "digits", "()I"⟩
def dkwX5_digits_2 : List UInt8 := [181, 0, 26, 167, 255, 208, 27, 172]
abbrev dktX5_digits_2 : List UInt8 := dkwX5_digits_2 ++ []
def dkwX5_digits_1 : List UInt8 := [180, 0, 15, 42, 180, 0, 26, 51, 96, 16, 48, 100, 184, 0, 64, 60, 42, 89, 180, 0, 26, 4, 96]
abbrev dktX5_digits_1 : List UInt8 := dkwX5_digits_1 ++ dktX5_digits_2
def dkwX5_digits_0 : List UInt8 := [3, 60, 42, 42, 180, 0, 26, 16, 48, 16, 57, 182, 0, 32, 153, 0, 39, 18, 63, 16, 10, 27, 104, 42]
abbrev dktX5_digits_0 : List UInt8 := dkwX5_digits_0 ++ dktX5_digits_1
theorem dksX5_digits_0 : cX5_digits.data.toList.drop 0 = dktX5_digits_0 := by decide +kernel
theorem dksX5_digits_1 : cX5_digits.data.toList.drop 24 = dktX5_digits_1 := dk_seg dksX5_digits_0 24 rfl rfl
theorem dksX5_digits_2 : cX5_digits.data.toList.drop 47 = dktX5_digits_2 := dk_seg dksX5_digits_1 23 rfl rfl
theorem dX5_digits_0 : decode cX5_digits 0 = .ok (.iconst 0, 1) := dk_3 (dk_at dksX5_digits_0 0 rfl rfl)
theorem dX5_digits_1 : decode cX5_digits 1 = .ok (.istore_n 1, 1) := dk_60 (dk_at dksX5_digits_0 1 rfl rfl)
theorem dX5_digits_2 : decode cX5_digits 2 = .ok (.aload_n 0, 1) := dk_42 (dk_at dksX5_digits_0 2 rfl rfl)
theorem dX5_digits_3 : decode cX5_digits 3 = .ok (.aload_n 0, 1) := dk_42 (dk_at dksX5_digits_0 3 rfl rfl)
theorem dX5_digits_4 : decode cX5_digits 4 = .ok (.getfield 26, 3) := dk_180 0 26 (dk_at dksX5_digits_0 4 rfl rfl)
theorem dX5_digits_7 : decode cX5_digits 7 = .ok (.bipush 48, 2) := dk_16 48 (dk_at dksX5_digits_0 7 rfl rfl)
theorem dX5_digits_9 : decode cX5_digits 9 = .ok (.bipush 57, 2) := dk_16 57 (dk_at dksX5_digits_0 9 rfl rfl)
theorem dX5_digits_11 : decode cX5_digits 11 = .ok (.invokevirtual 32, 3) := dk_182 0 32 (dk_at dksX5_digits_0 11 rfl rfl)
theorem dX5_digits_14 : decode cX5_digits 14 = .ok (.ifCond .eq 39, 3) := dk_153 0 39 (dk_at dksX5_digits_0 14 rfl rfl)
theorem dX5_digits_17 : decode cX5_digits 17 = .ok (.ldc 63, 2) := dk_18 63 (dk_at dksX5_digits_0 17 rfl rfl)
theorem dX5_digits_19 : decode cX5_digits 19 = .ok (.bipush 10, 2) := dk_16 10 (dk_at dksX5_digits_0 19 rfl rfl)
theorem dX5_digits_21 : decode cX5_digits 21 = .ok (.iload_n 1, 1) := dk_27 (dk_at dksX5_digits_0 21 rfl rfl)
theorem dX5_digits_22 : decode cX5_digits 22 = .ok (.imul, 1) := dk_104 (dk_at dksX5_digits_0 22 rfl rfl)
theorem dX5_digits_23 : decode cX5_digits 23 = .ok (.aload_n 0, 1) := dk_42 (dk_at dksX5_digits_0 23 rfl rfl)
theorem dX5_digits_24 : decode cX5_digits 24 = .ok (.getfield 15, 3) := dk_180 0 15 (dk_at dksX5_digits_1 0 rfl rfl)
theorem dX5_digits_27 : decode cX5_digits 27 = .ok (.aload_n 0, 1) := dk_42 (dk_at dksX5_digits_1 3 rfl rfl)
theorem dX5_digits_28 : decode cX5_digits 28 = .ok (.getfield 26, 3) := dk_180 0 26 (dk_at dksX5_digits_1 4 rfl rfl)
theorem dX5_digits_31 : decode cX5_digits 31 = .ok (.baload, 1) := dk_51 (dk_at dksX5_digits_1 7 rfl rfl)
theorem dX5_digits_32 : decode cX5_digits 32 = .ok (.iadd, 1) := dk_96 (dk_at dksX5_digits_1 8 rfl rfl)
theorem dX5_digits_33 : decode cX5_digits 33 = .ok (.bipush 48, 2) := dk_16 48 (dk_at dksX5_digits_1 9 rfl rfl)
theorem dX5_digits_35 : decode cX5_digits 35 = .ok (.isub, 1) := dk_100 (dk_at dksX5_digits_1 11 rfl rfl)
theorem dX5_digits_36 : decode cX5_digits 36 = .ok (.invokestatic 64, 3) := dk_184 0 64 (dk_at dksX5_digits_1 12 rfl rfl)
theorem dX5_digits_39 : decode cX5_digits 39 = .ok (.istore_n 1, 1) := dk_60 (dk_at dksX5_digits_1 15 rfl rfl)
theorem dX5_digits_40 : decode cX5_digits 40 = .ok (.aload_n 0, 1) := dk_42 (dk_at dksX5_digits_1 16 rfl rfl)
theorem dX5_digits_41 : decode cX5_digits 41 = .ok (.dup, 1) := dk_89 (dk_at dksX5_digits_1 17 rfl rfl)
theorem dX5_digits_42 : decode cX5_digits 42 = .ok (.getfield 26, 3) := dk_180 0 26 (dk_at dksX5_digits_1 18 rfl rfl)
theorem dX5_digits_45 : decode cX5_digits 45 = .ok (.iconst 1, 1) := dk_4 (dk_at dksX5_digits_1 21 rfl rfl)
theorem dX5_digits_46 : decode cX5_digits 46 = .ok (.iadd, 1) := dk_96 (dk_at dksX5_digits_1 22 rfl rfl)
theorem dX5_digits_47 : decode cX5_digits 47 = .ok (.putfield 26, 3) := dk_181 0 26 (dk_at dksX5_digits_2 0 rfl rfl)
theorem dX5_digits_50 : decode cX5_digits 50 = .ok (.goto (-48), 3) := dk_167 255 208 (dk_at dksX5_digits_2 3 rfl rfl)
theorem dX5_digits_53 : decode cX5_digits 53 = .ok (.iload_n 1, 1) := dk_27 (dk_at dksX5_digits_2 6 rfl rfl)
theorem dX5_digits_54 : decode cX5_digits 54 = .ok (.ireturn, 1) := dk_172 (dk_at dksX5_digits_2 7 rfl rfl)
abbrev cX5_expect : ByteArray := prog_22_method_8_code
def yX5_expect : MethodName := ⟨RX5, "expect", "(Ljava/lang/String;)V"⟩
def dkwX5_expect_0 : List UInt8 := [42, 42, 180, 0, 9, 43, 182, 0, 78, 182, 0, 84, 42, 182, 0, 23, 177]
abbrev dktX5_expect_0 : List UInt8 := dkwX5_expect_0 ++ []
theorem dksX5_expect_0 : cX5_expect.data.toList.drop 0 = dktX5_expect_0 := by decide +kernel
theorem dX5_expect_0 : decode cX5_expect 0 = .ok (.aload_n 0, 1) := dk_42 (dk_at dksX5_expect_0 0 rfl rfl)
theorem dX5_expect_1 : decode cX5_expect 1 = .ok (.aload_n 0, 1) := dk_42 (dk_at dksX5_expect_0 1 rfl rfl)
theorem dX5_expect_2 : decode cX5_expect 2 = .ok (.getfield 9, 3) := dk_180 0 9 (dk_at dksX5_expect_0 2 rfl rfl)
theorem dX5_expect_5 : decode cX5_expect 5 = .ok (.aload_n 1, 1) := dk_43 (dk_at dksX5_expect_0 5 rfl rfl)
theorem dX5_expect_6 : decode cX5_expect 6 = .ok (.invokevirtual 78, 3) := dk_182 0 78 (dk_at dksX5_expect_0 6 rfl rfl)
theorem dX5_expect_9 : decode cX5_expect 9 = .ok (.invokevirtual 84, 3) := dk_182 0 84 (dk_at dksX5_expect_0 9 rfl rfl)
theorem dX5_expect_12 : decode cX5_expect 12 = .ok (.aload_n 0, 1) := dk_42 (dk_at dksX5_expect_0 12 rfl rfl)
theorem dX5_expect_13 : decode cX5_expect 13 = .ok (.invokevirtual 23, 3) := dk_182 0 23 (dk_at dksX5_expect_0 13 rfl rfl)
theorem dX5_expect_16 : decode cX5_expect 16 = .ok (.return_, 1) := dk_177 (dk_at dksX5_expect_0 16 rfl rfl)
abbrev cX5_allow : ByteArray := prog_22_method_6_code
def yX5_allow : MethodName := ⟨RX5, "allow", "(Z)V"⟩
def dkwX5_allow_0 : List UInt8 := [27, 154, 0, 15, 187, 0, 70, 89, 42, 180, 0, 29, 183, 0, 72, 191, 177]
abbrev dktX5_allow_0 : List UInt8 := dkwX5_allow_0 ++ []
theorem dksX5_allow_0 : cX5_allow.data.toList.drop 0 = dktX5_allow_0 := by decide +kernel
theorem dX5_allow_0 : decode cX5_allow 0 = .ok (.iload_n 1, 1) := dk_27 (dk_at dksX5_allow_0 0 rfl rfl)
theorem dX5_allow_1 : decode cX5_allow 1 = .ok (.ifCond .ne 15, 3) := dk_154 0 15 (dk_at dksX5_allow_0 1 rfl rfl)
theorem dX5_allow_4 : decode cX5_allow 4 = .ok (.new 70, 3) := dk_187 0 70 (dk_at dksX5_allow_0 4 rfl rfl)
theorem dX5_allow_7 : decode cX5_allow 7 = .ok (.dup, 1) := dk_89 (dk_at dksX5_allow_0 7 rfl rfl)
theorem dX5_allow_8 : decode cX5_allow 8 = .ok (.aload_n 0, 1) := dk_42 (dk_at dksX5_allow_0 8 rfl rfl)
theorem dX5_allow_9 : decode cX5_allow 9 = .ok (.getfield 29, 3) := dk_180 0 29 (dk_at dksX5_allow_0 9 rfl rfl)
theorem dX5_allow_12 : decode cX5_allow 12 = .ok (.invokespecial 72, 3) := dk_183 0 72 (dk_at dksX5_allow_0 12 rfl rfl)
theorem dX5_allow_15 : decode cX5_allow 15 = .ok (.athrow, 1) := dk_191 (dk_at dksX5_allow_0 15 rfl rfl)
theorem dX5_allow_16 : decode cX5_allow 16 = .ok (.return_, 1) := dk_177 (dk_at dksX5_allow_0 16 rfl rfl)
abbrev cX5_look : ByteArray := prog_22_method_10_code
def yX5_look : MethodName := ⟨RX5, "look", "(II)I"⟩
def dkwX5_look_1 : List UInt8 := [184, 0, 88, 154, 0, 15, 187, 0, 93, 89, 42, 180, 0, 29, 183, 0, 95, 191, 42, 180, 0, 47, 172]
abbrev dktX5_look_1 : List UInt8 := dkwX5_look_1 ++ []
def dkwX5_look_0 : List UInt8 := [42, 42, 180, 0, 36, 5, 160, 0, 7, 4, 167, 0, 4, 3, 182, 0, 84, 42, 180, 0, 47, 27, 28]
abbrev dktX5_look_0 : List UInt8 := dkwX5_look_0 ++ dktX5_look_1
theorem dksX5_look_0 : cX5_look.data.toList.drop 0 = dktX5_look_0 := by decide +kernel
theorem dksX5_look_1 : cX5_look.data.toList.drop 23 = dktX5_look_1 := dk_seg dksX5_look_0 23 rfl rfl
theorem dX5_look_0 : decode cX5_look 0 = .ok (.aload_n 0, 1) := dk_42 (dk_at dksX5_look_0 0 rfl rfl)
theorem dX5_look_1 : decode cX5_look 1 = .ok (.aload_n 0, 1) := dk_42 (dk_at dksX5_look_0 1 rfl rfl)
theorem dX5_look_2 : decode cX5_look 2 = .ok (.getfield 36, 3) := dk_180 0 36 (dk_at dksX5_look_0 2 rfl rfl)
theorem dX5_look_5 : decode cX5_look 5 = .ok (.iconst 2, 1) := dk_5 (dk_at dksX5_look_0 5 rfl rfl)
theorem dX5_look_6 : decode cX5_look 6 = .ok (.if_icmp .ne 7, 3) := dk_160 0 7 (dk_at dksX5_look_0 6 rfl rfl)
theorem dX5_look_9 : decode cX5_look 9 = .ok (.iconst 1, 1) := dk_4 (dk_at dksX5_look_0 9 rfl rfl)
theorem dX5_look_10 : decode cX5_look 10 = .ok (.goto 4, 3) := dk_167 0 4 (dk_at dksX5_look_0 10 rfl rfl)
theorem dX5_look_13 : decode cX5_look 13 = .ok (.iconst 0, 1) := dk_3 (dk_at dksX5_look_0 13 rfl rfl)
theorem dX5_look_14 : decode cX5_look 14 = .ok (.invokevirtual 84, 3) := dk_182 0 84 (dk_at dksX5_look_0 14 rfl rfl)
theorem dX5_look_17 : decode cX5_look 17 = .ok (.aload_n 0, 1) := dk_42 (dk_at dksX5_look_0 17 rfl rfl)
theorem dX5_look_18 : decode cX5_look 18 = .ok (.getfield 47, 3) := dk_180 0 47 (dk_at dksX5_look_0 18 rfl rfl)
theorem dX5_look_21 : decode cX5_look 21 = .ok (.iload_n 1, 1) := dk_27 (dk_at dksX5_look_0 21 rfl rfl)
theorem dX5_look_22 : decode cX5_look 22 = .ok (.iload_n 2, 1) := dk_28 (dk_at dksX5_look_0 22 rfl rfl)
theorem dX5_look_23 : decode cX5_look 23 = .ok (.invokestatic 88, 3) := dk_184 0 88 (dk_at dksX5_look_1 0 rfl rfl)
theorem dX5_look_26 : decode cX5_look 26 = .ok (.ifCond .ne 15, 3) := dk_154 0 15 (dk_at dksX5_look_1 3 rfl rfl)
theorem dX5_look_29 : decode cX5_look 29 = .ok (.new 93, 3) := dk_187 0 93 (dk_at dksX5_look_1 6 rfl rfl)
theorem dX5_look_32 : decode cX5_look 32 = .ok (.dup, 1) := dk_89 (dk_at dksX5_look_1 9 rfl rfl)
theorem dX5_look_33 : decode cX5_look 33 = .ok (.aload_n 0, 1) := dk_42 (dk_at dksX5_look_1 10 rfl rfl)
theorem dX5_look_34 : decode cX5_look 34 = .ok (.getfield 29, 3) := dk_180 0 29 (dk_at dksX5_look_1 11 rfl rfl)
theorem dX5_look_37 : decode cX5_look 37 = .ok (.invokespecial 95, 3) := dk_183 0 95 (dk_at dksX5_look_1 14 rfl rfl)
theorem dX5_look_40 : decode cX5_look 40 = .ok (.athrow, 1) := dk_191 (dk_at dksX5_look_1 17 rfl rfl)
theorem dX5_look_41 : decode cX5_look 41 = .ok (.aload_n 0, 1) := dk_42 (dk_at dksX5_look_1 18 rfl rfl)
theorem dX5_look_42 : decode cX5_look 42 = .ok (.getfield 47, 3) := dk_180 0 47 (dk_at dksX5_look_1 19 rfl rfl)
theorem dX5_look_45 : decode cX5_look 45 = .ok (.ireturn, 1) := dk_172 (dk_at dksX5_look_1 22 rfl rfl)
abbrev cX5_fit : ByteArray := prog_22_method_7_code
def yX5_fit : MethodName := ⟨RX5, "fit", "(Z)V"⟩
def dkwX5_fit_0 : List UInt8 := [27, 154, 0, 15, 187, 0, 75, 89, 42, 180, 0, 29, 183, 0, 77, 191, 177]
abbrev dktX5_fit_0 : List UInt8 := dkwX5_fit_0 ++ []
theorem dksX5_fit_0 : cX5_fit.data.toList.drop 0 = dktX5_fit_0 := by decide +kernel
theorem dX5_fit_0 : decode cX5_fit 0 = .ok (.iload_n 1, 1) := dk_27 (dk_at dksX5_fit_0 0 rfl rfl)
theorem dX5_fit_1 : decode cX5_fit 1 = .ok (.ifCond .ne 15, 3) := dk_154 0 15 (dk_at dksX5_fit_0 1 rfl rfl)
theorem dX5_fit_4 : decode cX5_fit 4 = .ok (.new 75, 3) := dk_187 0 75 (dk_at dksX5_fit_0 4 rfl rfl)
theorem dX5_fit_7 : decode cX5_fit 7 = .ok (.dup, 1) := dk_89 (dk_at dksX5_fit_0 7 rfl rfl)
theorem dX5_fit_8 : decode cX5_fit 8 = .ok (.aload_n 0, 1) := dk_42 (dk_at dksX5_fit_0 8 rfl rfl)
theorem dX5_fit_9 : decode cX5_fit 9 = .ok (.getfield 29, 3) := dk_180 0 29 (dk_at dksX5_fit_0 9 rfl rfl)
theorem dX5_fit_12 : decode cX5_fit 12 = .ok (.invokespecial 77, 3) := dk_183 0 77 (dk_at dksX5_fit_0 12 rfl rfl)
theorem dX5_fit_15 : decode cX5_fit 15 = .ok (.athrow, 1) := dk_191 (dk_at dksX5_fit_0 15 rfl rfl)
theorem dX5_fit_16 : decode cX5_fit 16 = .ok (.return_, 1) := dk_177 (dk_at dksX5_fit_0 16 rfl rfl)
abbrev cX5_semicolon : ByteArray := prog_22_method_9_code
def yX5_semicolon : MethodName := ⟨RX5, "semicolon", "()V"⟩
def dkwX5_semicolon_0 : List UInt8 := [42, 42, 180, 0, 36, 6, 160, 0, 7, 4, 167, 0, 4, 3, 182, 0, 84, 42, 182, 0, 23, 177]
abbrev dktX5_semicolon_0 : List UInt8 := dkwX5_semicolon_0 ++ []
theorem dksX5_semicolon_0 : cX5_semicolon.data.toList.drop 0 = dktX5_semicolon_0 := by decide +kernel
theorem dX5_semicolon_0 : decode cX5_semicolon 0 = .ok (.aload_n 0, 1) := dk_42 (dk_at dksX5_semicolon_0 0 rfl rfl)
theorem dX5_semicolon_1 : decode cX5_semicolon 1 = .ok (.aload_n 0, 1) := dk_42 (dk_at dksX5_semicolon_0 1 rfl rfl)
theorem dX5_semicolon_2 : decode cX5_semicolon 2 = .ok (.getfield 36, 3) := dk_180 0 36 (dk_at dksX5_semicolon_0 2 rfl rfl)
theorem dX5_semicolon_5 : decode cX5_semicolon 5 = .ok (.iconst 3, 1) := dk_6 (dk_at dksX5_semicolon_0 5 rfl rfl)
theorem dX5_semicolon_6 : decode cX5_semicolon 6 = .ok (.if_icmp .ne 7, 3) := dk_160 0 7 (dk_at dksX5_semicolon_0 6 rfl rfl)
theorem dX5_semicolon_9 : decode cX5_semicolon 9 = .ok (.iconst 1, 1) := dk_4 (dk_at dksX5_semicolon_0 9 rfl rfl)
theorem dX5_semicolon_10 : decode cX5_semicolon 10 = .ok (.goto 4, 3) := dk_167 0 4 (dk_at dksX5_semicolon_0 10 rfl rfl)
theorem dX5_semicolon_13 : decode cX5_semicolon 13 = .ok (.iconst 0, 1) := dk_3 (dk_at dksX5_semicolon_0 13 rfl rfl)
theorem dX5_semicolon_14 : decode cX5_semicolon 14 = .ok (.invokevirtual 84, 3) := dk_182 0 84 (dk_at dksX5_semicolon_0 14 rfl rfl)
theorem dX5_semicolon_17 : decode cX5_semicolon 17 = .ok (.aload_n 0, 1) := dk_42 (dk_at dksX5_semicolon_0 17 rfl rfl)
theorem dX5_semicolon_18 : decode cX5_semicolon 18 = .ok (.invokevirtual 23, 3) := dk_182 0 23 (dk_at dksX5_semicolon_0 18 rfl rfl)
theorem dX5_semicolon_21 : decode cX5_semicolon 21 = .ok (.return_, 1) := dk_177 (dk_at dksX5_semicolon_0 21 rfl rfl)
abbrev cX5_number : ByteArray := prog_22_method_11_code
def yX5_number : MethodName := ⟨RX5, "number", "(II)I"⟩
def dkwX5_number_0 : List UInt8 := [42, 27, 28, 182, 0, 96, 62, 42, 182, 0, 23, 29, 172]
abbrev dktX5_number_0 : List UInt8 := dkwX5_number_0 ++ []
theorem dksX5_number_0 : cX5_number.data.toList.drop 0 = dktX5_number_0 := by decide +kernel
theorem dX5_number_0 : decode cX5_number 0 = .ok (.aload_n 0, 1) := dk_42 (dk_at dksX5_number_0 0 rfl rfl)
theorem dX5_number_1 : decode cX5_number 1 = .ok (.iload_n 1, 1) := dk_27 (dk_at dksX5_number_0 1 rfl rfl)
theorem dX5_number_2 : decode cX5_number 2 = .ok (.iload_n 2, 1) := dk_28 (dk_at dksX5_number_0 2 rfl rfl)
theorem dX5_number_3 : decode cX5_number 3 = .ok (.invokevirtual 96, 3) := dk_182 0 96 (dk_at dksX5_number_0 3 rfl rfl)
theorem dX5_number_6 : decode cX5_number 6 = .ok (.istore_n 3, 1) := dk_62 (dk_at dksX5_number_0 6 rfl rfl)
theorem dX5_number_7 : decode cX5_number 7 = .ok (.aload_n 0, 1) := dk_42 (dk_at dksX5_number_0 7 rfl rfl)
theorem dX5_number_8 : decode cX5_number 8 = .ok (.invokevirtual 23, 3) := dk_182 0 23 (dk_at dksX5_number_0 8 rfl rfl)
theorem dX5_number_11 : decode cX5_number 11 = .ok (.iload_n 3, 1) := dk_29 (dk_at dksX5_number_0 11 rfl rfl)
theorem dX5_number_12 : decode cX5_number 12 = .ok (.ireturn, 1) := dk_172 (dk_at dksX5_number_0 12 rfl rfl)
abbrev cX5_begin : ByteArray := prog_22_method_12_code
def yX5_begin : MethodName := ⟨RX5, "begin", "()I"⟩
theorem dX5_begin_0 : decode cX5_begin 0 = .ok (.aload_n 0, 1) := by decide +kernel
theorem dX5_begin_1 : decode cX5_begin 1 = .ok (.getfield 29, 3) := by decide +kernel
theorem dX5_begin_4 : decode cX5_begin 4 = .ok (.ireturn, 1) := by decide +kernel
theorem q123 : (Jvm.Cond.initialized "PrinterClaims$Scanner") ∈ lw_all := lw_g (lw_at lw_m1 25 rfl) rfl
theorem q1031 : (Jvm.Cond.instanceMethod ({ cls := "PrinterClaims$Scanner", name := "<init>", desc := "([BI)V" } : Jvm.MethodName)) ∈ lw_all := lw_g (lw_at lw_m4 213 rfl) rfl
theorem q1032 : (Jvm.Cond.code ({ cls := "PrinterClaims$Scanner", name := "<init>", desc := "([BI)V" } : Jvm.MethodName) prog_22_method_1_code (3 : Nat) (Option.none : Option Jvm.ClassFile.FieldType)) ∈ lw_all := lw_g (lw_at lw_m4 214 rfl) rfl
theorem q1033 : (Jvm.Cond.methodLink "PrinterClaims$Scanner" (1 : Nat) ({ cls := "java/lang/Object", name := "<init>", desc := "()V" } : Jvm.MethodName)) ∈ lw_all := lw_g (lw_at lw_m4 215 rfl) rfl
theorem q1034 : (Jvm.Cond.stringRef "PrinterClaims$Scanner" (7 : Nat) "") ∈ lw_tbl := lw_at lw_m4 216 rfl
theorem q1035 : (Jvm.Cond.methodLink "PrinterClaims$Scanner" (23 : Nat) ({ cls := "PrinterClaims$Scanner", name := "advance", desc := "()V" } : Jvm.MethodName)) ∈ lw_all := lw_g (lw_at lw_m4 217 rfl) rfl
theorem q1036 : (Jvm.Cond.instanceMethod ({ cls := "PrinterClaims$Scanner", name := "advance", desc := "()V" } : Jvm.MethodName)) ∈ lw_all := lw_g (lw_at lw_m4 218 rfl) rfl
theorem q1037 : (Jvm.Cond.sameMethod "PrinterClaims$Scanner" "PrinterClaims$Scanner" "advance" "()V") ∈ lw_all := lw_g (lw_at lw_m4 219 rfl) rfl
theorem q1040 : (Jvm.Cond.code ({ cls := "PrinterClaims$Scanner", name := "advance", desc := "()V" } : Jvm.MethodName) prog_22_method_3_code (1 : Nat) (Option.none : Option Jvm.ClassFile.FieldType)) ∈ lw_all := lw_g (lw_at lw_m4 222 rfl) rfl
theorem q1041 : (Jvm.Cond.methodLink "PrinterClaims$Scanner" (32 : Nat) ({ cls := "PrinterClaims$Scanner", name := "isBetween", desc := "(III)Z" } : Jvm.MethodName)) ∈ lw_all := lw_g (lw_at lw_m4 223 rfl) rfl
theorem q1042 : (Jvm.Cond.privateMethod ({ cls := "PrinterClaims$Scanner", name := "isBetween", desc := "(III)Z" } : Jvm.MethodName)) ∈ lw_tbl := lw_at lw_m4 224 rfl
theorem q1043 : (Jvm.Cond.instanceMethod ({ cls := "PrinterClaims$Scanner", name := "isBetween", desc := "(III)Z" } : Jvm.MethodName)) ∈ lw_all := lw_g (lw_at lw_m4 225 rfl) rfl
theorem q1044 : (Jvm.Cond.instantiable "PrinterClaims$Scanner" (7 : Nat)) ∈ lw_all := lw_g (lw_at lw_m4 226 rfl) rfl
theorem q1045 : (Jvm.Cond.code ({ cls := "PrinterClaims$Scanner", name := "isBetween", desc := "(III)Z" } : Jvm.MethodName) prog_22_method_2_code (4 : Nat) (Option.some Jvm.ClassFile.FieldType.boolean)) ∈ lw_all := lw_g (lw_at lw_m4 227 rfl) rfl
theorem q1046 : (Jvm.Cond.methodLink "PrinterClaims$Scanner" (39 : Nat) ({ cls := "PrinterClaims$Scanner", name := "letters", desc := "()Ljava/lang/String;" } : Jvm.MethodName)) ∈ lw_all := lw_g (lw_at lw_m4 228 rfl) rfl
theorem q1047 : (Jvm.Cond.privateMethod ({ cls := "PrinterClaims$Scanner", name := "letters", desc := "()Ljava/lang/String;" } : Jvm.MethodName)) ∈ lw_tbl := lw_at lw_m4 229 rfl
theorem q1048 : (Jvm.Cond.instanceMethod ({ cls := "PrinterClaims$Scanner", name := "letters", desc := "()Ljava/lang/String;" } : Jvm.MethodName)) ∈ lw_all := lw_g (lw_at lw_m4 230 rfl) rfl
theorem q1049 : (Jvm.Cond.code ({ cls := "PrinterClaims$Scanner", name := "letters", desc := "()Ljava/lang/String;" } : Jvm.MethodName) prog_22_method_4_code (2 : Nat) (Option.some (Jvm.ClassFile.FieldType.object "java/lang/String"))) ∈ lw_all := lw_g (lw_at lw_m4 231 rfl) rfl
theorem q1050 : (Jvm.Cond.classLink "PrinterClaims$Scanner" (50 : Nat) "java/lang/StringBuilder") ∈ lw_all := lw_g (lw_at lw_m4 232 rfl) rfl
theorem q1051 : (Jvm.Cond.methodLink "PrinterClaims$Scanner" (52 : Nat) ({ cls := "java/lang/StringBuilder", name := "<init>", desc := "()V" } : Jvm.MethodName)) ∈ lw_all := lw_g (lw_at lw_m4 233 rfl) rfl
theorem q1052 : (Jvm.Cond.methodLink "PrinterClaims$Scanner" (53 : Nat) ({ cls := "java/lang/StringBuilder", name := "length", desc := "()I" } : Jvm.MethodName)) ∈ lw_all := lw_g (lw_at lw_m4 234 rfl) rfl
theorem q1053 : (Jvm.Cond.methodLink "PrinterClaims$Scanner" (56 : Nat) ({ cls := "java/lang/StringBuilder", name := "append", desc := "(C)Ljava/lang/StringBuilder;" } : Jvm.MethodName)) ∈ lw_all := lw_g (lw_at lw_m4 235 rfl) rfl
theorem q1073 : (Jvm.Cond.methodLink "PrinterClaims$Scanner" (60 : Nat) ({ cls := "java/lang/StringBuilder", name := "toString", desc := "()Ljava/lang/String;" } : Jvm.MethodName)) ∈ lw_all := lw_g (lw_at lw_m5 15 rfl) rfl
theorem q1074 : (Jvm.Cond.methodLink "PrinterClaims$Scanner" (43 : Nat) ({ cls := "PrinterClaims$Scanner", name := "digits", desc := "()I" } : Jvm.MethodName)) ∈ lw_all := lw_g (lw_at lw_m5 16 rfl) rfl
theorem q1075 : (Jvm.Cond.privateMethod ({ cls := "PrinterClaims$Scanner", name := "digits", desc := "()I" } : Jvm.MethodName)) ∈ lw_tbl := lw_at lw_m5 17 rfl
theorem q1076 : (Jvm.Cond.instanceMethod ({ cls := "PrinterClaims$Scanner", name := "digits", desc := "()I" } : Jvm.MethodName)) ∈ lw_all := lw_g (lw_at lw_m5 18 rfl) rfl
theorem q1077 : (Jvm.Cond.code ({ cls := "PrinterClaims$Scanner", name := "digits", desc := "()I" } : Jvm.MethodName) prog_22_method_5_code (2 : Nat) (Option.some Jvm.ClassFile.FieldType.int)) ∈ lw_all := lw_g (lw_at lw_m5 19 rfl) rfl
theorem q1078 : (Jvm.Cond.constant "PrinterClaims$Scanner" (63 : Nat) (1000000 : Int32)) ∈ lw_all := lw_g (lw_at lw_m5 20 rfl) rfl
theorem q1079 : (Jvm.Cond.methodLink "PrinterClaims$Scanner" (64 : Nat) ({ cls := "java/lang/Math", name := "min", desc := "(II)I" } : Jvm.MethodName)) ∈ lw_all := lw_g (lw_at lw_m5 21 rfl) rfl
theorem q1080 : (Jvm.Cond.fieldLink "PrinterClaims$Scanner" (15 : Nat) "PrinterClaims$Scanner" "text" "[B") ∈ lw_all := lw_g (lw_at lw_m5 22 rfl) rfl
theorem q1081 : (Jvm.Cond.fieldLink "PrinterClaims$Scanner" (19 : Nat) "PrinterClaims$Scanner" "end" "I") ∈ lw_all := lw_g (lw_at lw_m5 23 rfl) rfl
theorem q1082 : (Jvm.Cond.fieldLink "PrinterClaims$Scanner" (29 : Nat) "PrinterClaims$Scanner" "begin" "I") ∈ lw_all := lw_g (lw_at lw_m5 24 rfl) rfl
theorem q1083 : (Jvm.Cond.fieldLink "PrinterClaims$Scanner" (26 : Nat) "PrinterClaims$Scanner" "next" "I") ∈ lw_all := lw_g (lw_at lw_m5 25 rfl) rfl
theorem q1084 : (Jvm.Cond.fieldLink "PrinterClaims$Scanner" (47 : Nat) "PrinterClaims$Scanner" "value" "I") ∈ lw_all := lw_g (lw_at lw_m5 26 rfl) rfl
theorem q1089 : (Jvm.Cond.fieldLink "PrinterClaims$Scanner" (36 : Nat) "PrinterClaims$Scanner" "kind" "I") ∈ lw_all := lw_g (lw_at lw_m5 31 rfl) rfl
theorem q1090 : (Jvm.Cond.fieldLink "PrinterClaims$Scanner" (9 : Nat) "PrinterClaims$Scanner" "word" "Ljava/lang/String;") ∈ lw_all := lw_g (lw_at lw_m5 32 rfl) rfl
theorem q1096 : (Jvm.Cond.soleField "PrinterClaims$Scanner" "text") ∈ lw_all := lw_g (lw_at lw_m5 38 rfl) rfl
theorem q1098 : (Jvm.Cond.soleField "PrinterClaims$Scanner" "end") ∈ lw_all := lw_g (lw_at lw_m5 40 rfl) rfl
theorem q1100 : (Jvm.Cond.soleField "PrinterClaims$Scanner" "begin") ∈ lw_all := lw_g (lw_at lw_m5 42 rfl) rfl
theorem q1102 : (Jvm.Cond.soleField "PrinterClaims$Scanner" "next") ∈ lw_all := lw_g (lw_at lw_m5 44 rfl) rfl
theorem q1104 : (Jvm.Cond.soleField "PrinterClaims$Scanner" "value") ∈ lw_all := lw_g (lw_at lw_m5 46 rfl) rfl
theorem q1106 : (Jvm.Cond.soleField "PrinterClaims$Scanner" "kind") ∈ lw_all := lw_g (lw_at lw_m5 48 rfl) rfl
theorem q1108 : (Jvm.Cond.soleField "PrinterClaims$Scanner" "word") ∈ lw_all := lw_g (lw_at lw_m5 50 rfl) rfl
theorem q1117 : (Jvm.Cond.declares ({ cls := "PrinterClaims$Scanner", name := "expect", desc := "(Ljava/lang/String;)V" } : Jvm.MethodName)) ∈ lw_tbl := lw_at lw_m5 59 rfl
theorem q1119 : (Jvm.Cond.instanceMethod ({ cls := "PrinterClaims$Scanner", name := "expect", desc := "(Ljava/lang/String;)V" } : Jvm.MethodName)) ∈ lw_all := lw_g (lw_at lw_m5 61 rfl) rfl
theorem q1120 : (Jvm.Cond.code ({ cls := "PrinterClaims$Scanner", name := "expect", desc := "(Ljava/lang/String;)V" } : Jvm.MethodName) prog_22_method_8_code (2 : Nat) (Option.none : Option Jvm.ClassFile.FieldType)) ∈ lw_all := lw_g (lw_at lw_m5 62 rfl) rfl
theorem q1121 : (Jvm.Cond.methodLink "PrinterClaims$Scanner" (78 : Nat) ({ cls := "java/lang/String", name := "equals", desc := "(Ljava/lang/Object;)Z" } : Jvm.MethodName)) ∈ lw_all := lw_g (lw_at lw_m5 63 rfl) rfl
theorem q1129 : (Jvm.Cond.methodLink "PrinterClaims$Scanner" (84 : Nat) ({ cls := "PrinterClaims$Scanner", name := "allow", desc := "(Z)V" } : Jvm.MethodName)) ∈ lw_all := lw_g (lw_at lw_m5 71 rfl) rfl
theorem q1130 : (Jvm.Cond.instanceMethod ({ cls := "PrinterClaims$Scanner", name := "allow", desc := "(Z)V" } : Jvm.MethodName)) ∈ lw_all := lw_g (lw_at lw_m5 72 rfl) rfl
theorem q1131 : (Jvm.Cond.sameMethod "PrinterClaims$Scanner" "PrinterClaims$Scanner" "allow" "(Z)V") ∈ lw_all := lw_g (lw_at lw_m5 73 rfl) rfl
theorem q1134 : (Jvm.Cond.code ({ cls := "PrinterClaims$Scanner", name := "allow", desc := "(Z)V" } : Jvm.MethodName) prog_22_method_6_code (2 : Nat) (Option.none : Option Jvm.ClassFile.FieldType)) ∈ lw_all := lw_g (lw_at lw_m5 76 rfl) rfl
theorem q1135 : (Jvm.Cond.classLink "PrinterClaims$Scanner" (70 : Nat) "PrinterClaims$SyntaxException") ∈ lw_all := lw_g (lw_at lw_m5 77 rfl) rfl
theorem q1144 : (Jvm.Cond.methodLink "PrinterClaims$Scanner" (72 : Nat) ({ cls := "PrinterClaims$SyntaxException", name := "<init>", desc := "(I)V" } : Jvm.MethodName)) ∈ lw_all := lw_g (lw_at lw_m5 86 rfl) rfl
theorem q1169 : (Jvm.Cond.declares ({ cls := "PrinterClaims$Scanner", name := "look", desc := "(II)I" } : Jvm.MethodName)) ∈ lw_tbl := lw_at lw_m5 111 rfl
theorem q1171 : (Jvm.Cond.instanceMethod ({ cls := "PrinterClaims$Scanner", name := "look", desc := "(II)I" } : Jvm.MethodName)) ∈ lw_all := lw_g (lw_at lw_m5 113 rfl) rfl
theorem q1172 : (Jvm.Cond.code ({ cls := "PrinterClaims$Scanner", name := "look", desc := "(II)I" } : Jvm.MethodName) prog_22_method_10_code (3 : Nat) (Option.some Jvm.ClassFile.FieldType.int)) ∈ lw_all := lw_g (lw_at lw_m5 114 rfl) rfl
theorem q1173 : (Jvm.Cond.methodLinkNest "PrinterClaims$Scanner" (88 : Nat) ({ cls := "PrinterClaims", name := "inRange", desc := "(III)Z" } : Jvm.MethodName) "PrinterClaims") ∈ lw_tbl := lw_at lw_m5 115 rfl
theorem q1174 : (Jvm.Cond.classLink "PrinterClaims$Scanner" (93 : Nat) "PrinterClaims$RangeException") ∈ lw_all := lw_g (lw_at lw_m5 116 rfl) rfl
theorem q1183 : (Jvm.Cond.methodLink "PrinterClaims$Scanner" (95 : Nat) ({ cls := "PrinterClaims$RangeException", name := "<init>", desc := "(I)V" } : Jvm.MethodName)) ∈ lw_all := lw_g (lw_at lw_m5 125 rfl) rfl
theorem q1192 : (Jvm.Cond.declares ({ cls := "PrinterClaims$Scanner", name := "fit", desc := "(Z)V" } : Jvm.MethodName)) ∈ lw_tbl := lw_at lw_m5 134 rfl
theorem q1194 : (Jvm.Cond.instanceMethod ({ cls := "PrinterClaims$Scanner", name := "fit", desc := "(Z)V" } : Jvm.MethodName)) ∈ lw_all := lw_g (lw_at lw_m5 136 rfl) rfl
theorem q1195 : (Jvm.Cond.code ({ cls := "PrinterClaims$Scanner", name := "fit", desc := "(Z)V" } : Jvm.MethodName) prog_22_method_7_code (2 : Nat) (Option.none : Option Jvm.ClassFile.FieldType)) ∈ lw_all := lw_g (lw_at lw_m5 137 rfl) rfl
theorem q1196 : (Jvm.Cond.classLink "PrinterClaims$Scanner" (75 : Nat) "PrinterClaims$LimitException") ∈ lw_all := lw_g (lw_at lw_m5 138 rfl) rfl
theorem q1205 : (Jvm.Cond.methodLink "PrinterClaims$Scanner" (77 : Nat) ({ cls := "PrinterClaims$LimitException", name := "<init>", desc := "(I)V" } : Jvm.MethodName)) ∈ lw_all := lw_g (lw_at lw_m5 147 rfl) rfl
theorem q1214 : (Jvm.Cond.declares ({ cls := "PrinterClaims$Scanner", name := "advance", desc := "()V" } : Jvm.MethodName)) ∈ lw_tbl := lw_at lw_m5 156 rfl
theorem q1218 : (Jvm.Cond.declares ({ cls := "PrinterClaims$Scanner", name := "semicolon", desc := "()V" } : Jvm.MethodName)) ∈ lw_tbl := lw_at lw_m5 160 rfl
theorem q1220 : (Jvm.Cond.instanceMethod ({ cls := "PrinterClaims$Scanner", name := "semicolon", desc := "()V" } : Jvm.MethodName)) ∈ lw_all := lw_g (lw_at lw_m5 162 rfl) rfl
theorem q1221 : (Jvm.Cond.code ({ cls := "PrinterClaims$Scanner", name := "semicolon", desc := "()V" } : Jvm.MethodName) prog_22_method_9_code (1 : Nat) (Option.none : Option Jvm.ClassFile.FieldType)) ∈ lw_all := lw_g (lw_at lw_m5 163 rfl) rfl
theorem q1240 : (Jvm.Cond.declares ({ cls := "PrinterClaims$Scanner", name := "allow", desc := "(Z)V" } : Jvm.MethodName)) ∈ lw_tbl := lw_at lw_m5 182 rfl
theorem q1247 : (Jvm.Cond.declares ({ cls := "PrinterClaims$Scanner", name := "number", desc := "(II)I" } : Jvm.MethodName)) ∈ lw_tbl := lw_at lw_m5 189 rfl
theorem q1249 : (Jvm.Cond.instanceMethod ({ cls := "PrinterClaims$Scanner", name := "number", desc := "(II)I" } : Jvm.MethodName)) ∈ lw_all := lw_g (lw_at lw_m5 191 rfl) rfl
theorem q1250 : (Jvm.Cond.code ({ cls := "PrinterClaims$Scanner", name := "number", desc := "(II)I" } : Jvm.MethodName) prog_22_method_11_code (4 : Nat) (Option.some Jvm.ClassFile.FieldType.int)) ∈ lw_all := lw_g (lw_at lw_m5 192 rfl) rfl
theorem q1251 : (Jvm.Cond.methodLink "PrinterClaims$Scanner" (96 : Nat) ({ cls := "PrinterClaims$Scanner", name := "look", desc := "(II)I" } : Jvm.MethodName)) ∈ lw_all := lw_g (lw_at lw_m5 193 rfl) rfl
theorem q1269 : (Jvm.Cond.declares ({ cls := "PrinterClaims$Scanner", name := "begin", desc := "()I" } : Jvm.MethodName)) ∈ lw_tbl := lw_at lw_m5 211 rfl
theorem q1271 : (Jvm.Cond.instanceMethod ({ cls := "PrinterClaims$Scanner", name := "begin", desc := "()I" } : Jvm.MethodName)) ∈ lw_all := lw_g (lw_at lw_m5 213 rfl) rfl
theorem q1272 : (Jvm.Cond.code ({ cls := "PrinterClaims$Scanner", name := "begin", desc := "()I" } : Jvm.MethodName) prog_22_method_12_code (1 : Nat) (Option.some Jvm.ClassFile.FieldType.int)) ∈ lw_all := lw_g (lw_at lw_m5 214 rfl) rfl
theorem q2944 : (Jvm.Cond.sameMethod "PrinterClaims$Scanner" "PrinterClaims$Scanner" "isBetween" "(III)Z") ∈ lw_all := lw_g (lw_at lw_m12 206 rfl) rfl
theorem q2945 : (Jvm.Cond.sameMethod "PrinterClaims$Scanner" "PrinterClaims$Scanner" "letters" "()Ljava/lang/String;") ∈ lw_all := lw_g (lw_at lw_m12 207 rfl) rfl
theorem q2948 : (Jvm.Cond.sameMethod "PrinterClaims$Scanner" "PrinterClaims$Scanner" "digits" "()I") ∈ lw_all := lw_g (lw_at lw_m12 210 rfl) rfl
theorem q2949 : (Jvm.Cond.sameMethod "PrinterClaims$Scanner" "PrinterClaims$Scanner" "look" "(II)I") ∈ lw_all := lw_g (lw_at lw_m12 211 rfl) rfl
theorem q2996 : (Jvm.Cond.castable "PrinterClaims$Scanner" "java/lang/Object") ∈ lw_tbl := lw_at lw_m13 18 rfl

/-! PrinterClaims$Reader -/
set_option maxRecDepth 100000
def RX6 : String := "PrinterClaims$Reader"
def TX6 : u_T := fun k => match k with
  | 0 => ("PrinterClaims$Scanner", "text", "[B", true)
  | 1 => ("PrinterClaims$Scanner", "end", "I", true)
  | 2 => ("PrinterClaims$Scanner", "begin", "I", false)
  | 3 => ("PrinterClaims$Scanner", "next", "I", false)
  | 4 => ("PrinterClaims$Scanner", "value", "I", false)
  | 5 => ("PrinterClaims$Scanner", "kind", "I", false)
  | _ => ("PrinterClaims$Scanner", "word", "Ljava/lang/String;", false)
def tyX6 : Nat → FieldType := fun k => match k with
  | 0 => .array .byte
  | 1 => .int
  | 2 => .int
  | 3 => .int
  | 4 => .int
  | 5 => .int
  | _ => .object "java/lang/String"
abbrev wsX60 : List Cond := u_ws RX6 TX6 7
theorem nmX6 : ∀ a, a < 7 → ∀ b, b < 7 → a ≠ b → (TX6 a).2.1 ≠ (TX6 b).2.1 := by decide +kernel
theorem tyX6_ok : ∀ k, k < 7 → parseFieldDescriptor (TX6 k).2.2.1 = some (tyX6 k) := by decide +kernel
abbrev cX6_init : ByteArray := prog_16_method_1_code
def yX6_init : MethodName := ⟨RX6, "<init>", "([BI)V"⟩
def dkwX6_init_0 : List UInt8 := [42, 43, 28, 183, 0, 3, 177]
abbrev dktX6_init_0 : List UInt8 := dkwX6_init_0 ++ []
theorem dksX6_init_0 : cX6_init.data.toList.drop 0 = dktX6_init_0 := by decide +kernel
theorem dX6_init_0 : decode cX6_init 0 = .ok (.aload_n 0, 1) := dk_42 (dk_at dksX6_init_0 0 rfl rfl)
theorem dX6_init_1 : decode cX6_init 1 = .ok (.aload_n 1, 1) := dk_43 (dk_at dksX6_init_0 1 rfl rfl)
theorem dX6_init_2 : decode cX6_init 2 = .ok (.iload_n 2, 1) := dk_28 (dk_at dksX6_init_0 2 rfl rfl)
theorem dX6_init_3 : decode cX6_init 3 = .ok (.invokespecial 3, 3) := dk_183 0 3 (dk_at dksX6_init_0 3 rfl rfl)
theorem dX6_init_6 : decode cX6_init 6 = .ok (.return_, 1) := dk_177 (dk_at dksX6_init_0 6 rfl rfl)
abbrev cX6_read : ByteArray := prog_16_method_2_code
def yX6_read : MethodName := ⟨RX6, "read", "()LPrinterClaims$State;"⟩
def dkwX6_read_2 : List UInt8 := [182, 0, 44, 154, 0, 15, 187, 0, 47, 89, 42, 182, 0, 49, 183, 0, 53, 191, 43, 176]
abbrev dktX6_read_2 : List UInt8 := dkwX6_read_2 ++ []
def dkwX6_read_1 : List UInt8 := [185, 0, 30, 1, 0, 154, 0, 10, 42, 180, 0, 36, 153, 0, 11, 42, 43, 182, 0, 40, 167, 255, 232, 43]
abbrev dktX6_read_1 : List UInt8 := dkwX6_read_1 ++ dktX6_read_2
def dkwX6_read_0 : List UInt8 := [42, 18, 9, 182, 0, 11, 187, 0, 17, 89, 42, 182, 0, 19, 183, 0, 23, 76, 43, 180, 0, 26]
abbrev dktX6_read_0 : List UInt8 := dkwX6_read_0 ++ dktX6_read_1
theorem dksX6_read_0 : cX6_read.data.toList.drop 0 = dktX6_read_0 := by decide +kernel
theorem dksX6_read_1 : cX6_read.data.toList.drop 22 = dktX6_read_1 := dk_seg dksX6_read_0 22 rfl rfl
theorem dksX6_read_2 : cX6_read.data.toList.drop 46 = dktX6_read_2 := dk_seg dksX6_read_1 24 rfl rfl
theorem dX6_read_0 : decode cX6_read 0 = .ok (.aload_n 0, 1) := dk_42 (dk_at dksX6_read_0 0 rfl rfl)
theorem dX6_read_1 : decode cX6_read 1 = .ok (.ldc 9, 2) := dk_18 9 (dk_at dksX6_read_0 1 rfl rfl)
theorem dX6_read_3 : decode cX6_read 3 = .ok (.invokevirtual 11, 3) := dk_182 0 11 (dk_at dksX6_read_0 3 rfl rfl)
theorem dX6_read_6 : decode cX6_read 6 = .ok (.new 17, 3) := dk_187 0 17 (dk_at dksX6_read_0 6 rfl rfl)
theorem dX6_read_9 : decode cX6_read 9 = .ok (.dup, 1) := dk_89 (dk_at dksX6_read_0 9 rfl rfl)
theorem dX6_read_10 : decode cX6_read 10 = .ok (.aload_n 0, 1) := dk_42 (dk_at dksX6_read_0 10 rfl rfl)
theorem dX6_read_11 : decode cX6_read 11 = .ok (.invokevirtual 19, 3) := dk_182 0 19 (dk_at dksX6_read_0 11 rfl rfl)
theorem dX6_read_14 : decode cX6_read 14 = .ok (.invokespecial 23, 3) := dk_183 0 23 (dk_at dksX6_read_0 14 rfl rfl)
theorem dX6_read_17 : decode cX6_read 17 = .ok (.astore_n 1, 1) := dk_76 (dk_at dksX6_read_0 17 rfl rfl)
theorem dX6_read_18 : decode cX6_read 18 = .ok (.aload_n 1, 1) := dk_43 (dk_at dksX6_read_0 18 rfl rfl)
theorem dX6_read_19 : decode cX6_read 19 = .ok (.getfield 26, 3) := dk_180 0 26 (dk_at dksX6_read_0 19 rfl rfl)
theorem dX6_read_22 : decode cX6_read 22 = .ok (.invokeinterface 30 1, 5) := by decide +kernel
theorem dX6_read_27 : decode cX6_read 27 = .ok (.ifCond .ne 10, 3) := dk_154 0 10 (dk_at dksX6_read_1 5 rfl rfl)
theorem dX6_read_30 : decode cX6_read 30 = .ok (.aload_n 0, 1) := dk_42 (dk_at dksX6_read_1 8 rfl rfl)
theorem dX6_read_31 : decode cX6_read 31 = .ok (.getfield 36, 3) := dk_180 0 36 (dk_at dksX6_read_1 9 rfl rfl)
theorem dX6_read_34 : decode cX6_read 34 = .ok (.ifCond .eq 11, 3) := dk_153 0 11 (dk_at dksX6_read_1 12 rfl rfl)
theorem dX6_read_37 : decode cX6_read 37 = .ok (.aload_n 0, 1) := dk_42 (dk_at dksX6_read_1 15 rfl rfl)
theorem dX6_read_38 : decode cX6_read 38 = .ok (.aload_n 1, 1) := dk_43 (dk_at dksX6_read_1 16 rfl rfl)
theorem dX6_read_39 : decode cX6_read 39 = .ok (.invokevirtual 40, 3) := dk_182 0 40 (dk_at dksX6_read_1 17 rfl rfl)
theorem dX6_read_42 : decode cX6_read 42 = .ok (.goto (-24), 3) := dk_167 255 232 (dk_at dksX6_read_1 20 rfl rfl)
theorem dX6_read_45 : decode cX6_read 45 = .ok (.aload_n 1, 1) := dk_43 (dk_at dksX6_read_1 23 rfl rfl)
theorem dX6_read_46 : decode cX6_read 46 = .ok (.invokevirtual 44, 3) := dk_182 0 44 (dk_at dksX6_read_2 0 rfl rfl)
theorem dX6_read_49 : decode cX6_read 49 = .ok (.ifCond .ne 15, 3) := dk_154 0 15 (dk_at dksX6_read_2 3 rfl rfl)
theorem dX6_read_52 : decode cX6_read 52 = .ok (.new 47, 3) := dk_187 0 47 (dk_at dksX6_read_2 6 rfl rfl)
theorem dX6_read_55 : decode cX6_read 55 = .ok (.dup, 1) := dk_89 (dk_at dksX6_read_2 9 rfl rfl)
theorem dX6_read_56 : decode cX6_read 56 = .ok (.aload_n 0, 1) := dk_42 (dk_at dksX6_read_2 10 rfl rfl)
theorem dX6_read_57 : decode cX6_read 57 = .ok (.invokevirtual 49, 3) := dk_182 0 49 (dk_at dksX6_read_2 11 rfl rfl)
theorem dX6_read_60 : decode cX6_read 60 = .ok (.invokespecial 53, 3) := dk_183 0 53 (dk_at dksX6_read_2 14 rfl rfl)
theorem dX6_read_63 : decode cX6_read 63 = .ok (.athrow, 1) := dk_191 (dk_at dksX6_read_2 17 rfl rfl)
theorem dX6_read_64 : decode cX6_read 64 = .ok (.aload_n 1, 1) := dk_43 (dk_at dksX6_read_2 18 rfl rfl)
theorem dX6_read_65 : decode cX6_read 65 = .ok (.areturn, 1) := dk_176 (dk_at dksX6_read_2 19 rfl rfl)
abbrev cX6_readTotals : ByteArray := prog_16_method_3_code
def yX6_readTotals : MethodName := ⟨RX6, "readTotals", "()[I"⟩
def dkwX6_readTotals_3 : List UInt8 := [162, 0, 17, 45, 21, 4, 43, 21, 4, 46, 79, 132, 4, 1, 167, 255, 239, 45, 176]
abbrev dktX6_readTotals_3 : List UInt8 := dkwX6_readTotals_3 ++ []
def dkwX6_readTotals_2 : List UInt8 := [29, 79, 132, 2, 1, 167, 255, 211, 42, 182, 0, 68, 28, 188, 10, 78, 3, 54, 4, 21, 4, 28]
abbrev dktX6_readTotals_2 : List UInt8 := dkwX6_readTotals_2 ++ dktX6_readTotals_3
def dkwX6_readTotals_1 : List UInt8 := [182, 0, 56, 62, 42, 28, 7, 162, 0, 7, 4, 167, 0, 4, 3, 182, 0, 60, 42, 182, 0, 64, 43, 28]
abbrev dktX6_readTotals_1 : List UInt8 := dkwX6_readTotals_1 ++ dktX6_readTotals_2
def dkwX6_readTotals_0 : List UInt8 := [7, 188, 10, 76, 3, 61, 28, 153, 0, 11, 42, 180, 0, 36, 5, 160, 0, 39, 42, 4, 16, 20]
abbrev dktX6_readTotals_0 : List UInt8 := dkwX6_readTotals_0 ++ dktX6_readTotals_1
theorem dksX6_readTotals_0 : cX6_readTotals.data.toList.drop 0 = dktX6_readTotals_0 := by decide +kernel
theorem dksX6_readTotals_1 : cX6_readTotals.data.toList.drop 22 = dktX6_readTotals_1 := dk_seg dksX6_readTotals_0 22 rfl rfl
theorem dksX6_readTotals_2 : cX6_readTotals.data.toList.drop 46 = dktX6_readTotals_2 := dk_seg dksX6_readTotals_1 24 rfl rfl
theorem dksX6_readTotals_3 : cX6_readTotals.data.toList.drop 68 = dktX6_readTotals_3 := dk_seg dksX6_readTotals_2 22 rfl rfl
theorem dX6_readTotals_0 : decode cX6_readTotals 0 = .ok (.iconst 4, 1) := dk_7 (dk_at dksX6_readTotals_0 0 rfl rfl)
theorem dX6_readTotals_1 : decode cX6_readTotals 1 = .ok (.newarray .int, 2) := dk_188_10 (dk_at dksX6_readTotals_0 1 rfl rfl)
theorem dX6_readTotals_3 : decode cX6_readTotals 3 = .ok (.astore_n 1, 1) := dk_76 (dk_at dksX6_readTotals_0 3 rfl rfl)
theorem dX6_readTotals_4 : decode cX6_readTotals 4 = .ok (.iconst 0, 1) := dk_3 (dk_at dksX6_readTotals_0 4 rfl rfl)
theorem dX6_readTotals_5 : decode cX6_readTotals 5 = .ok (.istore_n 2, 1) := dk_61 (dk_at dksX6_readTotals_0 5 rfl rfl)
theorem dX6_readTotals_6 : decode cX6_readTotals 6 = .ok (.iload_n 2, 1) := dk_28 (dk_at dksX6_readTotals_0 6 rfl rfl)
theorem dX6_readTotals_7 : decode cX6_readTotals 7 = .ok (.ifCond .eq 11, 3) := dk_153 0 11 (dk_at dksX6_readTotals_0 7 rfl rfl)
theorem dX6_readTotals_10 : decode cX6_readTotals 10 = .ok (.aload_n 0, 1) := dk_42 (dk_at dksX6_readTotals_0 10 rfl rfl)
theorem dX6_readTotals_11 : decode cX6_readTotals 11 = .ok (.getfield 36, 3) := dk_180 0 36 (dk_at dksX6_readTotals_0 11 rfl rfl)
theorem dX6_readTotals_14 : decode cX6_readTotals 14 = .ok (.iconst 2, 1) := dk_5 (dk_at dksX6_readTotals_0 14 rfl rfl)
theorem dX6_readTotals_15 : decode cX6_readTotals 15 = .ok (.if_icmp .ne 39, 3) := dk_160 0 39 (dk_at dksX6_readTotals_0 15 rfl rfl)
theorem dX6_readTotals_18 : decode cX6_readTotals 18 = .ok (.aload_n 0, 1) := dk_42 (dk_at dksX6_readTotals_0 18 rfl rfl)
theorem dX6_readTotals_19 : decode cX6_readTotals 19 = .ok (.iconst 1, 1) := dk_4 (dk_at dksX6_readTotals_0 19 rfl rfl)
theorem dX6_readTotals_20 : decode cX6_readTotals 20 = .ok (.bipush 20, 2) := dk_16 20 (dk_at dksX6_readTotals_0 20 rfl rfl)
theorem dX6_readTotals_22 : decode cX6_readTotals 22 = .ok (.invokevirtual 56, 3) := dk_182 0 56 (dk_at dksX6_readTotals_1 0 rfl rfl)
theorem dX6_readTotals_25 : decode cX6_readTotals 25 = .ok (.istore_n 3, 1) := dk_62 (dk_at dksX6_readTotals_1 3 rfl rfl)
theorem dX6_readTotals_26 : decode cX6_readTotals 26 = .ok (.aload_n 0, 1) := dk_42 (dk_at dksX6_readTotals_1 4 rfl rfl)
theorem dX6_readTotals_27 : decode cX6_readTotals 27 = .ok (.iload_n 2, 1) := dk_28 (dk_at dksX6_readTotals_1 5 rfl rfl)
theorem dX6_readTotals_28 : decode cX6_readTotals 28 = .ok (.iconst 4, 1) := dk_7 (dk_at dksX6_readTotals_1 6 rfl rfl)
theorem dX6_readTotals_29 : decode cX6_readTotals 29 = .ok (.if_icmp .ge 7, 3) := dk_162 0 7 (dk_at dksX6_readTotals_1 7 rfl rfl)
theorem dX6_readTotals_32 : decode cX6_readTotals 32 = .ok (.iconst 1, 1) := dk_4 (dk_at dksX6_readTotals_1 10 rfl rfl)
theorem dX6_readTotals_33 : decode cX6_readTotals 33 = .ok (.goto 4, 3) := dk_167 0 4 (dk_at dksX6_readTotals_1 11 rfl rfl)
theorem dX6_readTotals_36 : decode cX6_readTotals 36 = .ok (.iconst 0, 1) := dk_3 (dk_at dksX6_readTotals_1 14 rfl rfl)
theorem dX6_readTotals_37 : decode cX6_readTotals 37 = .ok (.invokevirtual 60, 3) := dk_182 0 60 (dk_at dksX6_readTotals_1 15 rfl rfl)
theorem dX6_readTotals_40 : decode cX6_readTotals 40 = .ok (.aload_n 0, 1) := dk_42 (dk_at dksX6_readTotals_1 18 rfl rfl)
theorem dX6_readTotals_41 : decode cX6_readTotals 41 = .ok (.invokevirtual 64, 3) := dk_182 0 64 (dk_at dksX6_readTotals_1 19 rfl rfl)
theorem dX6_readTotals_44 : decode cX6_readTotals 44 = .ok (.aload_n 1, 1) := dk_43 (dk_at dksX6_readTotals_1 22 rfl rfl)
theorem dX6_readTotals_45 : decode cX6_readTotals 45 = .ok (.iload_n 2, 1) := dk_28 (dk_at dksX6_readTotals_1 23 rfl rfl)
theorem dX6_readTotals_46 : decode cX6_readTotals 46 = .ok (.iload_n 3, 1) := dk_29 (dk_at dksX6_readTotals_2 0 rfl rfl)
theorem dX6_readTotals_47 : decode cX6_readTotals 47 = .ok (.iastore, 1) := dk_79 (dk_at dksX6_readTotals_2 1 rfl rfl)
theorem dX6_readTotals_48 : decode cX6_readTotals 48 = .ok (.iinc 2 1, 3) := dk_132 2 1 (dk_at dksX6_readTotals_2 2 rfl rfl)
theorem dX6_readTotals_51 : decode cX6_readTotals 51 = .ok (.goto (-45), 3) := dk_167 255 211 (dk_at dksX6_readTotals_2 5 rfl rfl)
theorem dX6_readTotals_54 : decode cX6_readTotals 54 = .ok (.aload_n 0, 1) := dk_42 (dk_at dksX6_readTotals_2 8 rfl rfl)
theorem dX6_readTotals_55 : decode cX6_readTotals 55 = .ok (.invokevirtual 68, 3) := dk_182 0 68 (dk_at dksX6_readTotals_2 9 rfl rfl)
theorem dX6_readTotals_58 : decode cX6_readTotals 58 = .ok (.iload_n 2, 1) := dk_28 (dk_at dksX6_readTotals_2 12 rfl rfl)
theorem dX6_readTotals_59 : decode cX6_readTotals 59 = .ok (.newarray .int, 2) := dk_188_10 (dk_at dksX6_readTotals_2 13 rfl rfl)
theorem dX6_readTotals_61 : decode cX6_readTotals 61 = .ok (.astore_n 3, 1) := dk_78 (dk_at dksX6_readTotals_2 15 rfl rfl)
theorem dX6_readTotals_62 : decode cX6_readTotals 62 = .ok (.iconst 0, 1) := dk_3 (dk_at dksX6_readTotals_2 16 rfl rfl)
theorem dX6_readTotals_63 : decode cX6_readTotals 63 = .ok (.istore 4, 2) := dk_54 4 (dk_at dksX6_readTotals_2 17 rfl rfl)
theorem dX6_readTotals_65 : decode cX6_readTotals 65 = .ok (.iload 4, 2) := dk_21 4 (dk_at dksX6_readTotals_2 19 rfl rfl)
theorem dX6_readTotals_67 : decode cX6_readTotals 67 = .ok (.iload_n 2, 1) := dk_28 (dk_at dksX6_readTotals_2 21 rfl rfl)
theorem dX6_readTotals_68 : decode cX6_readTotals 68 = .ok (.if_icmp .ge 17, 3) := dk_162 0 17 (dk_at dksX6_readTotals_3 0 rfl rfl)
theorem dX6_readTotals_71 : decode cX6_readTotals 71 = .ok (.aload_n 3, 1) := dk_45 (dk_at dksX6_readTotals_3 3 rfl rfl)
theorem dX6_readTotals_72 : decode cX6_readTotals 72 = .ok (.iload 4, 2) := dk_21 4 (dk_at dksX6_readTotals_3 4 rfl rfl)
theorem dX6_readTotals_74 : decode cX6_readTotals 74 = .ok (.aload_n 1, 1) := dk_43 (dk_at dksX6_readTotals_3 6 rfl rfl)
theorem dX6_readTotals_75 : decode cX6_readTotals 75 = .ok (.iload 4, 2) := dk_21 4 (dk_at dksX6_readTotals_3 7 rfl rfl)
theorem dX6_readTotals_77 : decode cX6_readTotals 77 = .ok (.iaload, 1) := dk_46 (dk_at dksX6_readTotals_3 9 rfl rfl)
theorem dX6_readTotals_78 : decode cX6_readTotals 78 = .ok (.iastore, 1) := dk_79 (dk_at dksX6_readTotals_3 10 rfl rfl)
theorem dX6_readTotals_79 : decode cX6_readTotals 79 = .ok (.iinc 4 1, 3) := dk_132 4 1 (dk_at dksX6_readTotals_3 11 rfl rfl)
theorem dX6_readTotals_82 : decode cX6_readTotals 82 = .ok (.goto (-17), 3) := dk_167 255 239 (dk_at dksX6_readTotals_3 14 rfl rfl)
theorem dX6_readTotals_85 : decode cX6_readTotals 85 = .ok (.aload_n 3, 1) := dk_45 (dk_at dksX6_readTotals_3 17 rfl rfl)
theorem dX6_readTotals_86 : decode cX6_readTotals 86 = .ok (.areturn, 1) := dk_176 (dk_at dksX6_readTotals_3 18 rfl rfl)
abbrev cX6_readOffice : ByteArray := prog_16_method_4_code
def yX6_readOffice : MethodName := ⟨RX6, "readOffice", "(LPrinterClaims$State;)V"⟩
def dkwX6_readOffice_6 : List UInt8 := [187, 0, 105, 89, 44, 45, 183, 0, 107, 182, 0, 110, 177]
abbrev dktX6_readOffice_6 : List UInt8 := dkwX6_readOffice_6 ++ []
def dkwX6_readOffice_5 : List UInt8 := [43, 21, 4, 44, 21, 4, 46, 182, 0, 101, 79, 132, 4, 1, 167, 255, 231, 42, 182, 0, 68, 43]
abbrev dktX6_readOffice_5 : List UInt8 := dkwX6_readOffice_5 ++ dktX6_readOffice_6
def dkwX6_readOffice_4 : List UInt8 := [182, 0, 77, 153, 0, 38, 42, 182, 0, 64, 3, 54, 4, 21, 4, 44, 190, 162, 0, 24, 45, 21, 4, 42]
abbrev dktX6_readOffice_4 : List UInt8 := dkwX6_readOffice_4 ++ dktX6_readOffice_5
def dkwX6_readOffice_3 : List UInt8 := [180, 0, 92, 21, 4, 46, 182, 0, 96, 79, 132, 4, 1, 167, 255, 230, 42, 180, 0, 71, 18, 99]
abbrev dktX6_readOffice_3 : List UInt8 := dkwX6_readOffice_3 ++ dktX6_readOffice_4
def dkwX6_readOffice_2 : List UInt8 := [43, 182, 0, 89, 188, 10, 78, 3, 54, 4, 21, 4, 44, 190, 162, 0, 25, 44, 21, 4, 42, 3, 43]
abbrev dktX6_readOffice_2 : List UInt8 := dkwX6_readOffice_2 ++ dktX6_readOffice_3
def dkwX6_readOffice_1 : List UInt8 := [16, 8, 162, 0, 7, 4, 167, 0, 4, 3, 182, 0, 60, 42, 182, 0, 64, 43, 182, 0, 89, 188, 10, 77]
abbrev dktX6_readOffice_1 : List UInt8 := dkwX6_readOffice_1 ++ dktX6_readOffice_2
def dkwX6_readOffice_0 : List UInt8 := [42, 42, 180, 0, 71, 18, 75, 182, 0, 77, 182, 0, 83, 42, 43, 180, 0, 26, 185, 0, 86, 1, 0]
abbrev dktX6_readOffice_0 : List UInt8 := dkwX6_readOffice_0 ++ dktX6_readOffice_1
theorem dksX6_readOffice_0 : cX6_readOffice.data.toList.drop 0 = dktX6_readOffice_0 := by decide +kernel
theorem dksX6_readOffice_1 : cX6_readOffice.data.toList.drop 23 = dktX6_readOffice_1 := dk_seg dksX6_readOffice_0 23 rfl rfl
theorem dksX6_readOffice_2 : cX6_readOffice.data.toList.drop 47 = dktX6_readOffice_2 := dk_seg dksX6_readOffice_1 24 rfl rfl
theorem dksX6_readOffice_3 : cX6_readOffice.data.toList.drop 70 = dktX6_readOffice_3 := dk_seg dksX6_readOffice_2 23 rfl rfl
theorem dksX6_readOffice_4 : cX6_readOffice.data.toList.drop 92 = dktX6_readOffice_4 := dk_seg dksX6_readOffice_3 22 rfl rfl
theorem dksX6_readOffice_5 : cX6_readOffice.data.toList.drop 116 = dktX6_readOffice_5 := dk_seg dksX6_readOffice_4 24 rfl rfl
theorem dksX6_readOffice_6 : cX6_readOffice.data.toList.drop 138 = dktX6_readOffice_6 := dk_seg dksX6_readOffice_5 22 rfl rfl
theorem dX6_readOffice_0 : decode cX6_readOffice 0 = .ok (.aload_n 0, 1) := dk_42 (dk_at dksX6_readOffice_0 0 rfl rfl)
theorem dX6_readOffice_1 : decode cX6_readOffice 1 = .ok (.aload_n 0, 1) := dk_42 (dk_at dksX6_readOffice_0 1 rfl rfl)
theorem dX6_readOffice_2 : decode cX6_readOffice 2 = .ok (.getfield 71, 3) := dk_180 0 71 (dk_at dksX6_readOffice_0 2 rfl rfl)
theorem dX6_readOffice_5 : decode cX6_readOffice 5 = .ok (.ldc 75, 2) := dk_18 75 (dk_at dksX6_readOffice_0 5 rfl rfl)
theorem dX6_readOffice_7 : decode cX6_readOffice 7 = .ok (.invokevirtual 77, 3) := dk_182 0 77 (dk_at dksX6_readOffice_0 7 rfl rfl)
theorem dX6_readOffice_10 : decode cX6_readOffice 10 = .ok (.invokevirtual 83, 3) := dk_182 0 83 (dk_at dksX6_readOffice_0 10 rfl rfl)
theorem dX6_readOffice_13 : decode cX6_readOffice 13 = .ok (.aload_n 0, 1) := dk_42 (dk_at dksX6_readOffice_0 13 rfl rfl)
theorem dX6_readOffice_14 : decode cX6_readOffice 14 = .ok (.aload_n 1, 1) := dk_43 (dk_at dksX6_readOffice_0 14 rfl rfl)
theorem dX6_readOffice_15 : decode cX6_readOffice 15 = .ok (.getfield 26, 3) := dk_180 0 26 (dk_at dksX6_readOffice_0 15 rfl rfl)
theorem dX6_readOffice_18 : decode cX6_readOffice 18 = .ok (.invokeinterface 86 1, 5) := by decide +kernel
theorem dX6_readOffice_23 : decode cX6_readOffice 23 = .ok (.bipush 8, 2) := dk_16 8 (dk_at dksX6_readOffice_1 0 rfl rfl)
theorem dX6_readOffice_25 : decode cX6_readOffice 25 = .ok (.if_icmp .ge 7, 3) := dk_162 0 7 (dk_at dksX6_readOffice_1 2 rfl rfl)
theorem dX6_readOffice_28 : decode cX6_readOffice 28 = .ok (.iconst 1, 1) := dk_4 (dk_at dksX6_readOffice_1 5 rfl rfl)
theorem dX6_readOffice_29 : decode cX6_readOffice 29 = .ok (.goto 4, 3) := dk_167 0 4 (dk_at dksX6_readOffice_1 6 rfl rfl)
theorem dX6_readOffice_32 : decode cX6_readOffice 32 = .ok (.iconst 0, 1) := dk_3 (dk_at dksX6_readOffice_1 9 rfl rfl)
theorem dX6_readOffice_33 : decode cX6_readOffice 33 = .ok (.invokevirtual 60, 3) := dk_182 0 60 (dk_at dksX6_readOffice_1 10 rfl rfl)
theorem dX6_readOffice_36 : decode cX6_readOffice 36 = .ok (.aload_n 0, 1) := dk_42 (dk_at dksX6_readOffice_1 13 rfl rfl)
theorem dX6_readOffice_37 : decode cX6_readOffice 37 = .ok (.invokevirtual 64, 3) := dk_182 0 64 (dk_at dksX6_readOffice_1 14 rfl rfl)
theorem dX6_readOffice_40 : decode cX6_readOffice 40 = .ok (.aload_n 1, 1) := dk_43 (dk_at dksX6_readOffice_1 17 rfl rfl)
theorem dX6_readOffice_41 : decode cX6_readOffice 41 = .ok (.invokevirtual 89, 3) := dk_182 0 89 (dk_at dksX6_readOffice_1 18 rfl rfl)
theorem dX6_readOffice_44 : decode cX6_readOffice 44 = .ok (.newarray .int, 2) := dk_188_10 (dk_at dksX6_readOffice_1 21 rfl rfl)
theorem dX6_readOffice_46 : decode cX6_readOffice 46 = .ok (.astore_n 2, 1) := dk_77 (dk_at dksX6_readOffice_1 23 rfl rfl)
theorem dX6_readOffice_47 : decode cX6_readOffice 47 = .ok (.aload_n 1, 1) := dk_43 (dk_at dksX6_readOffice_2 0 rfl rfl)
theorem dX6_readOffice_48 : decode cX6_readOffice 48 = .ok (.invokevirtual 89, 3) := dk_182 0 89 (dk_at dksX6_readOffice_2 1 rfl rfl)
theorem dX6_readOffice_51 : decode cX6_readOffice 51 = .ok (.newarray .int, 2) := dk_188_10 (dk_at dksX6_readOffice_2 4 rfl rfl)
theorem dX6_readOffice_53 : decode cX6_readOffice 53 = .ok (.astore_n 3, 1) := dk_78 (dk_at dksX6_readOffice_2 6 rfl rfl)
theorem dX6_readOffice_54 : decode cX6_readOffice 54 = .ok (.iconst 0, 1) := dk_3 (dk_at dksX6_readOffice_2 7 rfl rfl)
theorem dX6_readOffice_55 : decode cX6_readOffice 55 = .ok (.istore 4, 2) := dk_54 4 (dk_at dksX6_readOffice_2 8 rfl rfl)
theorem dX6_readOffice_57 : decode cX6_readOffice 57 = .ok (.iload 4, 2) := dk_21 4 (dk_at dksX6_readOffice_2 10 rfl rfl)
theorem dX6_readOffice_59 : decode cX6_readOffice 59 = .ok (.aload_n 2, 1) := dk_44 (dk_at dksX6_readOffice_2 12 rfl rfl)
theorem dX6_readOffice_60 : decode cX6_readOffice 60 = .ok (.arraylength, 1) := dk_190 (dk_at dksX6_readOffice_2 13 rfl rfl)
theorem dX6_readOffice_61 : decode cX6_readOffice 61 = .ok (.if_icmp .ge 25, 3) := dk_162 0 25 (dk_at dksX6_readOffice_2 14 rfl rfl)
theorem dX6_readOffice_64 : decode cX6_readOffice 64 = .ok (.aload_n 2, 1) := dk_44 (dk_at dksX6_readOffice_2 17 rfl rfl)
theorem dX6_readOffice_65 : decode cX6_readOffice 65 = .ok (.iload 4, 2) := dk_21 4 (dk_at dksX6_readOffice_2 18 rfl rfl)
theorem dX6_readOffice_67 : decode cX6_readOffice 67 = .ok (.aload_n 0, 1) := dk_42 (dk_at dksX6_readOffice_2 20 rfl rfl)
theorem dX6_readOffice_68 : decode cX6_readOffice 68 = .ok (.iconst 0, 1) := dk_3 (dk_at dksX6_readOffice_2 21 rfl rfl)
theorem dX6_readOffice_69 : decode cX6_readOffice 69 = .ok (.aload_n 1, 1) := dk_43 (dk_at dksX6_readOffice_2 22 rfl rfl)
theorem dX6_readOffice_70 : decode cX6_readOffice 70 = .ok (.getfield 92, 3) := dk_180 0 92 (dk_at dksX6_readOffice_3 0 rfl rfl)
theorem dX6_readOffice_73 : decode cX6_readOffice 73 = .ok (.iload 4, 2) := dk_21 4 (dk_at dksX6_readOffice_3 3 rfl rfl)
theorem dX6_readOffice_75 : decode cX6_readOffice 75 = .ok (.iaload, 1) := dk_46 (dk_at dksX6_readOffice_3 5 rfl rfl)
theorem dX6_readOffice_76 : decode cX6_readOffice 76 = .ok (.invokevirtual 96, 3) := dk_182 0 96 (dk_at dksX6_readOffice_3 6 rfl rfl)
theorem dX6_readOffice_79 : decode cX6_readOffice 79 = .ok (.iastore, 1) := dk_79 (dk_at dksX6_readOffice_3 9 rfl rfl)
theorem dX6_readOffice_80 : decode cX6_readOffice 80 = .ok (.iinc 4 1, 3) := dk_132 4 1 (dk_at dksX6_readOffice_3 10 rfl rfl)
theorem dX6_readOffice_83 : decode cX6_readOffice 83 = .ok (.goto (-26), 3) := dk_167 255 230 (dk_at dksX6_readOffice_3 13 rfl rfl)
theorem dX6_readOffice_86 : decode cX6_readOffice 86 = .ok (.aload_n 0, 1) := dk_42 (dk_at dksX6_readOffice_3 16 rfl rfl)
theorem dX6_readOffice_87 : decode cX6_readOffice 87 = .ok (.getfield 71, 3) := dk_180 0 71 (dk_at dksX6_readOffice_3 17 rfl rfl)
theorem dX6_readOffice_90 : decode cX6_readOffice 90 = .ok (.ldc 99, 2) := dk_18 99 (dk_at dksX6_readOffice_3 20 rfl rfl)
theorem dX6_readOffice_92 : decode cX6_readOffice 92 = .ok (.invokevirtual 77, 3) := dk_182 0 77 (dk_at dksX6_readOffice_4 0 rfl rfl)
theorem dX6_readOffice_95 : decode cX6_readOffice 95 = .ok (.ifCond .eq 38, 3) := dk_153 0 38 (dk_at dksX6_readOffice_4 3 rfl rfl)
theorem dX6_readOffice_98 : decode cX6_readOffice 98 = .ok (.aload_n 0, 1) := dk_42 (dk_at dksX6_readOffice_4 6 rfl rfl)
theorem dX6_readOffice_99 : decode cX6_readOffice 99 = .ok (.invokevirtual 64, 3) := dk_182 0 64 (dk_at dksX6_readOffice_4 7 rfl rfl)
theorem dX6_readOffice_102 : decode cX6_readOffice 102 = .ok (.iconst 0, 1) := dk_3 (dk_at dksX6_readOffice_4 10 rfl rfl)
theorem dX6_readOffice_103 : decode cX6_readOffice 103 = .ok (.istore 4, 2) := dk_54 4 (dk_at dksX6_readOffice_4 11 rfl rfl)
theorem dX6_readOffice_105 : decode cX6_readOffice 105 = .ok (.iload 4, 2) := dk_21 4 (dk_at dksX6_readOffice_4 13 rfl rfl)
theorem dX6_readOffice_107 : decode cX6_readOffice 107 = .ok (.aload_n 2, 1) := dk_44 (dk_at dksX6_readOffice_4 15 rfl rfl)
theorem dX6_readOffice_108 : decode cX6_readOffice 108 = .ok (.arraylength, 1) := dk_190 (dk_at dksX6_readOffice_4 16 rfl rfl)
theorem dX6_readOffice_109 : decode cX6_readOffice 109 = .ok (.if_icmp .ge 24, 3) := dk_162 0 24 (dk_at dksX6_readOffice_4 17 rfl rfl)
theorem dX6_readOffice_112 : decode cX6_readOffice 112 = .ok (.aload_n 3, 1) := dk_45 (dk_at dksX6_readOffice_4 20 rfl rfl)
theorem dX6_readOffice_113 : decode cX6_readOffice 113 = .ok (.iload 4, 2) := dk_21 4 (dk_at dksX6_readOffice_4 21 rfl rfl)
theorem dX6_readOffice_115 : decode cX6_readOffice 115 = .ok (.aload_n 0, 1) := dk_42 (dk_at dksX6_readOffice_4 23 rfl rfl)
theorem dX6_readOffice_116 : decode cX6_readOffice 116 = .ok (.aload_n 1, 1) := dk_43 (dk_at dksX6_readOffice_5 0 rfl rfl)
theorem dX6_readOffice_117 : decode cX6_readOffice 117 = .ok (.iload 4, 2) := dk_21 4 (dk_at dksX6_readOffice_5 1 rfl rfl)
theorem dX6_readOffice_119 : decode cX6_readOffice 119 = .ok (.aload_n 2, 1) := dk_44 (dk_at dksX6_readOffice_5 3 rfl rfl)
theorem dX6_readOffice_120 : decode cX6_readOffice 120 = .ok (.iload 4, 2) := dk_21 4 (dk_at dksX6_readOffice_5 4 rfl rfl)
theorem dX6_readOffice_122 : decode cX6_readOffice 122 = .ok (.iaload, 1) := dk_46 (dk_at dksX6_readOffice_5 6 rfl rfl)
theorem dX6_readOffice_123 : decode cX6_readOffice 123 = .ok (.invokevirtual 101, 3) := dk_182 0 101 (dk_at dksX6_readOffice_5 7 rfl rfl)
theorem dX6_readOffice_126 : decode cX6_readOffice 126 = .ok (.iastore, 1) := dk_79 (dk_at dksX6_readOffice_5 10 rfl rfl)
theorem dX6_readOffice_127 : decode cX6_readOffice 127 = .ok (.iinc 4 1, 3) := dk_132 4 1 (dk_at dksX6_readOffice_5 11 rfl rfl)
theorem dX6_readOffice_130 : decode cX6_readOffice 130 = .ok (.goto (-25), 3) := dk_167 255 231 (dk_at dksX6_readOffice_5 14 rfl rfl)
theorem dX6_readOffice_133 : decode cX6_readOffice 133 = .ok (.aload_n 0, 1) := dk_42 (dk_at dksX6_readOffice_5 17 rfl rfl)
theorem dX6_readOffice_134 : decode cX6_readOffice 134 = .ok (.invokevirtual 68, 3) := dk_182 0 68 (dk_at dksX6_readOffice_5 18 rfl rfl)
theorem dX6_readOffice_137 : decode cX6_readOffice 137 = .ok (.aload_n 1, 1) := dk_43 (dk_at dksX6_readOffice_5 21 rfl rfl)
theorem dX6_readOffice_138 : decode cX6_readOffice 138 = .ok (.new 105, 3) := dk_187 0 105 (dk_at dksX6_readOffice_6 0 rfl rfl)
theorem dX6_readOffice_141 : decode cX6_readOffice 141 = .ok (.dup, 1) := dk_89 (dk_at dksX6_readOffice_6 3 rfl rfl)
theorem dX6_readOffice_142 : decode cX6_readOffice 142 = .ok (.aload_n 2, 1) := dk_44 (dk_at dksX6_readOffice_6 4 rfl rfl)
theorem dX6_readOffice_143 : decode cX6_readOffice 143 = .ok (.aload_n 3, 1) := dk_45 (dk_at dksX6_readOffice_6 5 rfl rfl)
theorem dX6_readOffice_144 : decode cX6_readOffice 144 = .ok (.invokespecial 107, 3) := dk_183 0 107 (dk_at dksX6_readOffice_6 6 rfl rfl)
theorem dX6_readOffice_147 : decode cX6_readOffice 147 = .ok (.invokevirtual 110, 3) := dk_182 0 110 (dk_at dksX6_readOffice_6 9 rfl rfl)
theorem dX6_readOffice_150 : decode cX6_readOffice 150 = .ok (.return_, 1) := dk_177 (dk_at dksX6_readOffice_6 12 rfl rfl)
abbrev cX6_readAllocation : ByteArray := prog_16_method_5_code
def yX6_readAllocation : MethodName := ⟨RX6, "readAllocation", "(LPrinterClaims$State;II)I"⟩
def dkwX6_readAllocation_1 : List UInt8 := [182, 0, 49, 183, 0, 120, 191, 42, 182, 0, 64, 21, 4, 172]
abbrev dktX6_readAllocation_1 : List UInt8 := dkwX6_readAllocation_1 ++ []
def dkwX6_readAllocation_0 : List UInt8 := [42, 3, 29, 182, 0, 56, 54, 4, 21, 4, 43, 28, 182, 0, 114, 164, 0, 15, 187, 0, 118, 89, 42]
abbrev dktX6_readAllocation_0 : List UInt8 := dkwX6_readAllocation_0 ++ dktX6_readAllocation_1
theorem dksX6_readAllocation_0 : cX6_readAllocation.data.toList.drop 0 = dktX6_readAllocation_0 := by decide +kernel
theorem dksX6_readAllocation_1 : cX6_readAllocation.data.toList.drop 23 = dktX6_readAllocation_1 := dk_seg dksX6_readAllocation_0 23 rfl rfl
theorem dX6_readAllocation_0 : decode cX6_readAllocation 0 = .ok (.aload_n 0, 1) := dk_42 (dk_at dksX6_readAllocation_0 0 rfl rfl)
theorem dX6_readAllocation_1 : decode cX6_readAllocation 1 = .ok (.iconst 0, 1) := dk_3 (dk_at dksX6_readAllocation_0 1 rfl rfl)
theorem dX6_readAllocation_2 : decode cX6_readAllocation 2 = .ok (.iload_n 3, 1) := dk_29 (dk_at dksX6_readAllocation_0 2 rfl rfl)
theorem dX6_readAllocation_3 : decode cX6_readAllocation 3 = .ok (.invokevirtual 56, 3) := dk_182 0 56 (dk_at dksX6_readAllocation_0 3 rfl rfl)
theorem dX6_readAllocation_6 : decode cX6_readAllocation 6 = .ok (.istore 4, 2) := dk_54 4 (dk_at dksX6_readAllocation_0 6 rfl rfl)
theorem dX6_readAllocation_8 : decode cX6_readAllocation 8 = .ok (.iload 4, 2) := dk_21 4 (dk_at dksX6_readAllocation_0 8 rfl rfl)
theorem dX6_readAllocation_10 : decode cX6_readAllocation 10 = .ok (.aload_n 1, 1) := dk_43 (dk_at dksX6_readAllocation_0 10 rfl rfl)
theorem dX6_readAllocation_11 : decode cX6_readAllocation 11 = .ok (.iload_n 2, 1) := dk_28 (dk_at dksX6_readAllocation_0 11 rfl rfl)
theorem dX6_readAllocation_12 : decode cX6_readAllocation 12 = .ok (.invokevirtual 114, 3) := dk_182 0 114 (dk_at dksX6_readAllocation_0 12 rfl rfl)
theorem dX6_readAllocation_15 : decode cX6_readAllocation 15 = .ok (.if_icmp .le 15, 3) := dk_164 0 15 (dk_at dksX6_readAllocation_0 15 rfl rfl)
theorem dX6_readAllocation_18 : decode cX6_readAllocation 18 = .ok (.new 118, 3) := dk_187 0 118 (dk_at dksX6_readAllocation_0 18 rfl rfl)
theorem dX6_readAllocation_21 : decode cX6_readAllocation 21 = .ok (.dup, 1) := dk_89 (dk_at dksX6_readAllocation_0 21 rfl rfl)
theorem dX6_readAllocation_22 : decode cX6_readAllocation 22 = .ok (.aload_n 0, 1) := dk_42 (dk_at dksX6_readAllocation_0 22 rfl rfl)
theorem dX6_readAllocation_23 : decode cX6_readAllocation 23 = .ok (.invokevirtual 49, 3) := dk_182 0 49 (dk_at dksX6_readAllocation_1 0 rfl rfl)
theorem dX6_readAllocation_26 : decode cX6_readAllocation 26 = .ok (.invokespecial 120, 3) := dk_183 0 120 (dk_at dksX6_readAllocation_1 3 rfl rfl)
theorem dX6_readAllocation_29 : decode cX6_readAllocation 29 = .ok (.athrow, 1) := dk_191 (dk_at dksX6_readAllocation_1 6 rfl rfl)
theorem dX6_readAllocation_30 : decode cX6_readAllocation 30 = .ok (.aload_n 0, 1) := dk_42 (dk_at dksX6_readAllocation_1 7 rfl rfl)
theorem dX6_readAllocation_31 : decode cX6_readAllocation 31 = .ok (.invokevirtual 64, 3) := dk_182 0 64 (dk_at dksX6_readAllocation_1 8 rfl rfl)
theorem dX6_readAllocation_34 : decode cX6_readAllocation 34 = .ok (.iload 4, 2) := dk_21 4 (dk_at dksX6_readAllocation_1 11 rfl rfl)
theorem dX6_readAllocation_36 : decode cX6_readAllocation 36 = .ok (.ireturn, 1) := dk_172 (dk_at dksX6_readAllocation_1 13 rfl rfl)
theorem q124 : (Jvm.Cond.initialized "PrinterClaims$Reader") ∈ lw_all := lw_g (lw_at lw_m1 26 rfl) rfl
theorem q546 : (Jvm.Cond.fieldLinkNest "PrinterClaims$Reader" (92 : Nat) "PrinterClaims$State" "totals" "[I" "PrinterClaims") ∈ lw_tbl := lw_at lw_m2 208 rfl
theorem q551 : (Jvm.Cond.fieldLinkNest "PrinterClaims$Reader" (26 : Nat) "PrinterClaims$State" "offices" "Ljava/util/List;" "PrinterClaims") ∈ lw_tbl := lw_at lw_m2 213 rfl
theorem q659 : (Jvm.Cond.selects "PrinterClaims$Reader" ({ cls := "java/lang/Object", name := "getClass", desc := "()Ljava/lang/Class;" } : Jvm.MethodName) ({ cls := "java/lang/Object", name := "getClass", desc := "()Ljava/lang/Class;" } : Jvm.MethodName)) ∈ lw_all := lw_g (lw_at lw_m3 81 rfl) rfl
theorem q1026 : (Jvm.Cond.instantiable "PrinterClaims$Reader" (7 : Nat)) ∈ lw_all := lw_g (lw_at lw_m4 208 rfl) rfl
theorem q1028 : (Jvm.Cond.instanceMethod ({ cls := "PrinterClaims$Reader", name := "<init>", desc := "([BI)V" } : Jvm.MethodName)) ∈ lw_all := lw_g (lw_at lw_m4 210 rfl) rfl
theorem q1029 : (Jvm.Cond.code ({ cls := "PrinterClaims$Reader", name := "<init>", desc := "([BI)V" } : Jvm.MethodName) prog_16_method_1_code (3 : Nat) (Option.none : Option Jvm.ClassFile.FieldType)) ∈ lw_all := lw_g (lw_at lw_m4 211 rfl) rfl
theorem q1030 : (Jvm.Cond.methodLink "PrinterClaims$Reader" (3 : Nat) ({ cls := "PrinterClaims$Scanner", name := "<init>", desc := "([BI)V" } : Jvm.MethodName)) ∈ lw_all := lw_g (lw_at lw_m4 212 rfl) rfl
theorem q1038 : (Jvm.Cond.selects "PrinterClaims$Reader" ({ cls := "PrinterClaims$Scanner", name := "advance", desc := "()V" } : Jvm.MethodName) ({ cls := "PrinterClaims$Scanner", name := "advance", desc := "()V" } : Jvm.MethodName)) ∈ lw_all := lw_g (lw_at lw_m4 220 rfl) rfl
theorem q1087 : (Jvm.Cond.fieldLink "PrinterClaims$Reader" (36 : Nat) "PrinterClaims$Reader" "kind" "I") ∈ lw_all := lw_g (lw_at lw_m5 29 rfl) rfl
theorem q1088 : (Jvm.Cond.sameField "PrinterClaims$Reader" "PrinterClaims$Scanner" "kind" "I") ∈ lw_all := lw_g (lw_at lw_m5 30 rfl) rfl
theorem q1093 : (Jvm.Cond.fieldLink "PrinterClaims$Reader" (71 : Nat) "PrinterClaims$Reader" "word" "Ljava/lang/String;") ∈ lw_all := lw_g (lw_at lw_m5 35 rfl) rfl
theorem q1094 : (Jvm.Cond.sameField "PrinterClaims$Reader" "PrinterClaims$Scanner" "word" "Ljava/lang/String;") ∈ lw_all := lw_g (lw_at lw_m5 36 rfl) rfl
theorem q1095 : (Jvm.Cond.laysFinal "PrinterClaims$Reader" "PrinterClaims$Scanner" "text" "[B") ∈ lw_all := lw_g (lw_at lw_m5 37 rfl) rfl
theorem q1097 : (Jvm.Cond.laysFinal "PrinterClaims$Reader" "PrinterClaims$Scanner" "end" "I") ∈ lw_all := lw_g (lw_at lw_m5 39 rfl) rfl
theorem q1099 : (Jvm.Cond.lays "PrinterClaims$Reader" "PrinterClaims$Scanner" "begin" "I") ∈ lw_all := lw_g (lw_at lw_m5 41 rfl) rfl
theorem q1101 : (Jvm.Cond.lays "PrinterClaims$Reader" "PrinterClaims$Scanner" "next" "I") ∈ lw_all := lw_g (lw_at lw_m5 43 rfl) rfl
theorem q1103 : (Jvm.Cond.lays "PrinterClaims$Reader" "PrinterClaims$Scanner" "value" "I") ∈ lw_all := lw_g (lw_at lw_m5 45 rfl) rfl
theorem q1105 : (Jvm.Cond.lays "PrinterClaims$Reader" "PrinterClaims$Scanner" "kind" "I") ∈ lw_all := lw_g (lw_at lw_m5 47 rfl) rfl
theorem q1107 : (Jvm.Cond.lays "PrinterClaims$Reader" "PrinterClaims$Scanner" "word" "Ljava/lang/String;") ∈ lw_all := lw_g (lw_at lw_m5 49 rfl) rfl
theorem q1109 : (Jvm.Cond.superclass "PrinterClaims$Reader" "PrinterClaims$Scanner") ∈ lw_all := lw_g (lw_at lw_m5 51 rfl) rfl
theorem q1111 : (Jvm.Cond.instanceMethod ({ cls := "PrinterClaims$Reader", name := "read", desc := "()LPrinterClaims$State;" } : Jvm.MethodName)) ∈ lw_all := lw_g (lw_at lw_m5 53 rfl) rfl
theorem q1112 : (Jvm.Cond.selects "PrinterClaims$Reader" ({ cls := "PrinterClaims$Reader", name := "read", desc := "()LPrinterClaims$State;" } : Jvm.MethodName) ({ cls := "PrinterClaims$Reader", name := "read", desc := "()LPrinterClaims$State;" } : Jvm.MethodName)) ∈ lw_all := lw_g (lw_at lw_m5 54 rfl) rfl
theorem q1113 : (Jvm.Cond.code ({ cls := "PrinterClaims$Reader", name := "read", desc := "()LPrinterClaims$State;" } : Jvm.MethodName) prog_16_method_2_code (2 : Nat) (Option.some (Jvm.ClassFile.FieldType.object "PrinterClaims$State"))) ∈ lw_all := lw_g (lw_at lw_m5 55 rfl) rfl
theorem q1114 : (Jvm.Cond.stringRef "PrinterClaims$Reader" (9 : Nat) "printers") ∈ lw_tbl := lw_at lw_m5 56 rfl
theorem q1115 : (Jvm.Cond.methodLink "PrinterClaims$Reader" (11 : Nat) ({ cls := "PrinterClaims$Reader", name := "expect", desc := "(Ljava/lang/String;)V" } : Jvm.MethodName)) ∈ lw_all := lw_g (lw_at lw_m5 57 rfl) rfl
theorem q1116 : (Jvm.Cond.sameMethod "PrinterClaims$Reader" "PrinterClaims$Scanner" "expect" "(Ljava/lang/String;)V") ∈ lw_all := lw_g (lw_at lw_m5 58 rfl) rfl
theorem q1118 : (Jvm.Cond.selects "PrinterClaims$Reader" ({ cls := "PrinterClaims$Reader", name := "expect", desc := "(Ljava/lang/String;)V" } : Jvm.MethodName) ({ cls := "PrinterClaims$Scanner", name := "expect", desc := "(Ljava/lang/String;)V" } : Jvm.MethodName)) ∈ lw_all := lw_g (lw_at lw_m5 60 rfl) rfl
theorem q1132 : (Jvm.Cond.selects "PrinterClaims$Reader" ({ cls := "PrinterClaims$Scanner", name := "allow", desc := "(Z)V" } : Jvm.MethodName) ({ cls := "PrinterClaims$Scanner", name := "allow", desc := "(Z)V" } : Jvm.MethodName)) ∈ lw_all := lw_g (lw_at lw_m5 74 rfl) rfl
theorem q1162 : (Jvm.Cond.classLink "PrinterClaims$Reader" (17 : Nat) "PrinterClaims$State") ∈ lw_all := lw_g (lw_at lw_m5 104 rfl) rfl
theorem q1163 : (Jvm.Cond.methodLink "PrinterClaims$Reader" (19 : Nat) ({ cls := "PrinterClaims$Reader", name := "readTotals", desc := "()[I" } : Jvm.MethodName)) ∈ lw_all := lw_g (lw_at lw_m5 105 rfl) rfl
theorem q1164 : (Jvm.Cond.privateMethod ({ cls := "PrinterClaims$Reader", name := "readTotals", desc := "()[I" } : Jvm.MethodName)) ∈ lw_tbl := lw_at lw_m5 106 rfl
theorem q1165 : (Jvm.Cond.instanceMethod ({ cls := "PrinterClaims$Reader", name := "readTotals", desc := "()[I" } : Jvm.MethodName)) ∈ lw_all := lw_g (lw_at lw_m5 107 rfl) rfl
theorem q1166 : (Jvm.Cond.code ({ cls := "PrinterClaims$Reader", name := "readTotals", desc := "()[I" } : Jvm.MethodName) prog_16_method_3_code (5 : Nat) (Option.some (Jvm.ClassFile.FieldType.array Jvm.ClassFile.FieldType.int))) ∈ lw_all := lw_g (lw_at lw_m5 108 rfl) rfl
theorem q1167 : (Jvm.Cond.methodLink "PrinterClaims$Reader" (56 : Nat) ({ cls := "PrinterClaims$Reader", name := "look", desc := "(II)I" } : Jvm.MethodName)) ∈ lw_all := lw_g (lw_at lw_m5 109 rfl) rfl
theorem q1168 : (Jvm.Cond.sameMethod "PrinterClaims$Reader" "PrinterClaims$Scanner" "look" "(II)I") ∈ lw_all := lw_g (lw_at lw_m5 110 rfl) rfl
theorem q1170 : (Jvm.Cond.selects "PrinterClaims$Reader" ({ cls := "PrinterClaims$Reader", name := "look", desc := "(II)I" } : Jvm.MethodName) ({ cls := "PrinterClaims$Scanner", name := "look", desc := "(II)I" } : Jvm.MethodName)) ∈ lw_all := lw_g (lw_at lw_m5 112 rfl) rfl
theorem q1190 : (Jvm.Cond.methodLink "PrinterClaims$Reader" (60 : Nat) ({ cls := "PrinterClaims$Reader", name := "fit", desc := "(Z)V" } : Jvm.MethodName)) ∈ lw_all := lw_g (lw_at lw_m5 132 rfl) rfl
theorem q1191 : (Jvm.Cond.sameMethod "PrinterClaims$Reader" "PrinterClaims$Scanner" "fit" "(Z)V") ∈ lw_all := lw_g (lw_at lw_m5 133 rfl) rfl
theorem q1193 : (Jvm.Cond.selects "PrinterClaims$Reader" ({ cls := "PrinterClaims$Reader", name := "fit", desc := "(Z)V" } : Jvm.MethodName) ({ cls := "PrinterClaims$Scanner", name := "fit", desc := "(Z)V" } : Jvm.MethodName)) ∈ lw_all := lw_g (lw_at lw_m5 135 rfl) rfl
theorem q1212 : (Jvm.Cond.methodLink "PrinterClaims$Reader" (64 : Nat) ({ cls := "PrinterClaims$Reader", name := "advance", desc := "()V" } : Jvm.MethodName)) ∈ lw_all := lw_g (lw_at lw_m5 154 rfl) rfl
theorem q1213 : (Jvm.Cond.sameMethod "PrinterClaims$Reader" "PrinterClaims$Scanner" "advance" "()V") ∈ lw_all := lw_g (lw_at lw_m5 155 rfl) rfl
theorem q1215 : (Jvm.Cond.selects "PrinterClaims$Reader" ({ cls := "PrinterClaims$Reader", name := "advance", desc := "()V" } : Jvm.MethodName) ({ cls := "PrinterClaims$Scanner", name := "advance", desc := "()V" } : Jvm.MethodName)) ∈ lw_all := lw_g (lw_at lw_m5 157 rfl) rfl
theorem q1216 : (Jvm.Cond.methodLink "PrinterClaims$Reader" (68 : Nat) ({ cls := "PrinterClaims$Reader", name := "semicolon", desc := "()V" } : Jvm.MethodName)) ∈ lw_all := lw_g (lw_at lw_m5 158 rfl) rfl
theorem q1217 : (Jvm.Cond.sameMethod "PrinterClaims$Reader" "PrinterClaims$Scanner" "semicolon" "()V") ∈ lw_all := lw_g (lw_at lw_m5 159 rfl) rfl
theorem q1219 : (Jvm.Cond.selects "PrinterClaims$Reader" ({ cls := "PrinterClaims$Reader", name := "semicolon", desc := "()V" } : Jvm.MethodName) ({ cls := "PrinterClaims$Scanner", name := "semicolon", desc := "()V" } : Jvm.MethodName)) ∈ lw_all := lw_g (lw_at lw_m5 161 rfl) rfl
theorem q1222 : (Jvm.Cond.methodLink "PrinterClaims$Reader" (23 : Nat) ({ cls := "PrinterClaims$State", name := "<init>", desc := "([I)V" } : Jvm.MethodName)) ∈ lw_all := lw_g (lw_at lw_m5 164 rfl) rfl
theorem q1223 : (Jvm.Cond.interfaceEntry "PrinterClaims$Reader" (30 : Nat)) ∈ lw_tbl := lw_at lw_m5 165 rfl
theorem q1224 : (Jvm.Cond.methodLink "PrinterClaims$Reader" (30 : Nat) ({ cls := "java/util/List", name := "isEmpty", desc := "()Z" } : Jvm.MethodName)) ∈ lw_all := lw_g (lw_at lw_m5 166 rfl) rfl
theorem q1232 : (Jvm.Cond.methodLink "PrinterClaims$Reader" (40 : Nat) ({ cls := "PrinterClaims$Reader", name := "readOffice", desc := "(LPrinterClaims$State;)V" } : Jvm.MethodName)) ∈ lw_all := lw_g (lw_at lw_m5 174 rfl) rfl
theorem q1233 : (Jvm.Cond.privateMethod ({ cls := "PrinterClaims$Reader", name := "readOffice", desc := "(LPrinterClaims$State;)V" } : Jvm.MethodName)) ∈ lw_tbl := lw_at lw_m5 175 rfl
theorem q1234 : (Jvm.Cond.instanceMethod ({ cls := "PrinterClaims$Reader", name := "readOffice", desc := "(LPrinterClaims$State;)V" } : Jvm.MethodName)) ∈ lw_all := lw_g (lw_at lw_m5 176 rfl) rfl
theorem q1235 : (Jvm.Cond.code ({ cls := "PrinterClaims$Reader", name := "readOffice", desc := "(LPrinterClaims$State;)V" } : Jvm.MethodName) prog_16_method_4_code (5 : Nat) (Option.none : Option Jvm.ClassFile.FieldType)) ∈ lw_all := lw_g (lw_at lw_m5 177 rfl) rfl
theorem q1236 : (Jvm.Cond.stringRef "PrinterClaims$Reader" (75 : Nat) "office") ∈ lw_tbl := lw_at lw_m5 178 rfl
theorem q1237 : (Jvm.Cond.methodLink "PrinterClaims$Reader" (77 : Nat) ({ cls := "java/lang/String", name := "equals", desc := "(Ljava/lang/Object;)Z" } : Jvm.MethodName)) ∈ lw_all := lw_g (lw_at lw_m5 179 rfl) rfl
theorem q1238 : (Jvm.Cond.methodLink "PrinterClaims$Reader" (83 : Nat) ({ cls := "PrinterClaims$Reader", name := "allow", desc := "(Z)V" } : Jvm.MethodName)) ∈ lw_all := lw_g (lw_at lw_m5 180 rfl) rfl
theorem q1239 : (Jvm.Cond.sameMethod "PrinterClaims$Reader" "PrinterClaims$Scanner" "allow" "(Z)V") ∈ lw_all := lw_g (lw_at lw_m5 181 rfl) rfl
theorem q1241 : (Jvm.Cond.selects "PrinterClaims$Reader" ({ cls := "PrinterClaims$Reader", name := "allow", desc := "(Z)V" } : Jvm.MethodName) ({ cls := "PrinterClaims$Scanner", name := "allow", desc := "(Z)V" } : Jvm.MethodName)) ∈ lw_all := lw_g (lw_at lw_m5 183 rfl) rfl
theorem q1242 : (Jvm.Cond.interfaceEntry "PrinterClaims$Reader" (86 : Nat)) ∈ lw_tbl := lw_at lw_m5 184 rfl
theorem q1243 : (Jvm.Cond.methodLink "PrinterClaims$Reader" (86 : Nat) ({ cls := "java/util/List", name := "size", desc := "()I" } : Jvm.MethodName)) ∈ lw_all := lw_g (lw_at lw_m5 185 rfl) rfl
theorem q1244 : (Jvm.Cond.methodLink "PrinterClaims$Reader" (89 : Nat) ({ cls := "PrinterClaims$State", name := "kinds", desc := "()I" } : Jvm.MethodName)) ∈ lw_all := lw_g (lw_at lw_m5 186 rfl) rfl
theorem q1245 : (Jvm.Cond.methodLink "PrinterClaims$Reader" (96 : Nat) ({ cls := "PrinterClaims$Reader", name := "number", desc := "(II)I" } : Jvm.MethodName)) ∈ lw_all := lw_g (lw_at lw_m5 187 rfl) rfl
theorem q1246 : (Jvm.Cond.sameMethod "PrinterClaims$Reader" "PrinterClaims$Scanner" "number" "(II)I") ∈ lw_all := lw_g (lw_at lw_m5 188 rfl) rfl
theorem q1248 : (Jvm.Cond.selects "PrinterClaims$Reader" ({ cls := "PrinterClaims$Reader", name := "number", desc := "(II)I" } : Jvm.MethodName) ({ cls := "PrinterClaims$Scanner", name := "number", desc := "(II)I" } : Jvm.MethodName)) ∈ lw_all := lw_g (lw_at lw_m5 190 rfl) rfl
theorem q1252 : (Jvm.Cond.stringRef "PrinterClaims$Reader" (99 : Nat) "holds") ∈ lw_tbl := lw_at lw_m5 194 rfl
theorem q1253 : (Jvm.Cond.methodLink "PrinterClaims$Reader" (101 : Nat) ({ cls := "PrinterClaims$Reader", name := "readAllocation", desc := "(LPrinterClaims$State;II)I" } : Jvm.MethodName)) ∈ lw_all := lw_g (lw_at lw_m5 195 rfl) rfl
theorem q1254 : (Jvm.Cond.privateMethod ({ cls := "PrinterClaims$Reader", name := "readAllocation", desc := "(LPrinterClaims$State;II)I" } : Jvm.MethodName)) ∈ lw_tbl := lw_at lw_m5 196 rfl
theorem q1255 : (Jvm.Cond.instanceMethod ({ cls := "PrinterClaims$Reader", name := "readAllocation", desc := "(LPrinterClaims$State;II)I" } : Jvm.MethodName)) ∈ lw_all := lw_g (lw_at lw_m5 197 rfl) rfl
theorem q1256 : (Jvm.Cond.code ({ cls := "PrinterClaims$Reader", name := "readAllocation", desc := "(LPrinterClaims$State;II)I" } : Jvm.MethodName) prog_16_method_5_code (5 : Nat) (Option.some Jvm.ClassFile.FieldType.int)) ∈ lw_all := lw_g (lw_at lw_m5 198 rfl) rfl
theorem q1257 : (Jvm.Cond.methodLink "PrinterClaims$Reader" (114 : Nat) ({ cls := "PrinterClaims$State", name := "available", desc := "(I)I" } : Jvm.MethodName)) ∈ lw_all := lw_g (lw_at lw_m5 199 rfl) rfl
theorem q1258 : (Jvm.Cond.classLink "PrinterClaims$Reader" (118 : Nat) "PrinterClaims$SumException") ∈ lw_all := lw_g (lw_at lw_m5 200 rfl) rfl
theorem q1267 : (Jvm.Cond.methodLink "PrinterClaims$Reader" (49 : Nat) ({ cls := "PrinterClaims$Reader", name := "begin", desc := "()I" } : Jvm.MethodName)) ∈ lw_all := lw_g (lw_at lw_m5 209 rfl) rfl
theorem q1268 : (Jvm.Cond.sameMethod "PrinterClaims$Reader" "PrinterClaims$Scanner" "begin" "()I") ∈ lw_all := lw_g (lw_at lw_m5 210 rfl) rfl
theorem q1270 : (Jvm.Cond.selects "PrinterClaims$Reader" ({ cls := "PrinterClaims$Reader", name := "begin", desc := "()I" } : Jvm.MethodName) ({ cls := "PrinterClaims$Scanner", name := "begin", desc := "()I" } : Jvm.MethodName)) ∈ lw_all := lw_g (lw_at lw_m5 212 rfl) rfl
theorem q1273 : (Jvm.Cond.methodLink "PrinterClaims$Reader" (120 : Nat) ({ cls := "PrinterClaims$SumException", name := "<init>", desc := "(I)V" } : Jvm.MethodName)) ∈ lw_all := lw_g (lw_at lw_m5 215 rfl) rfl
theorem q1280 : (Jvm.Cond.classLink "PrinterClaims$Reader" (105 : Nat) "PrinterClaims$Office") ∈ lw_all := lw_g (lw_at lw_m5 222 rfl) rfl
theorem q1281 : (Jvm.Cond.methodLink "PrinterClaims$Reader" (107 : Nat) ({ cls := "PrinterClaims$Office", name := "<init>", desc := "([I[I)V" } : Jvm.MethodName)) ∈ lw_all := lw_g (lw_at lw_m5 223 rfl) rfl
theorem q1282 : (Jvm.Cond.methodLink "PrinterClaims$Reader" (110 : Nat) ({ cls := "PrinterClaims$State", name := "add", desc := "(LPrinterClaims$Office;)V" } : Jvm.MethodName)) ∈ lw_all := lw_g (lw_at lw_m5 224 rfl) rfl
theorem q1283 : (Jvm.Cond.methodLink "PrinterClaims$Reader" (44 : Nat) ({ cls := "PrinterClaims$State", name := "isSafe", desc := "()Z" } : Jvm.MethodName)) ∈ lw_all := lw_g (lw_at lw_m5 225 rfl) rfl
theorem q1328 : (Jvm.Cond.classLink "PrinterClaims$Reader" (47 : Nat) "PrinterClaims$UnsafeException") ∈ lw_all := lw_g (lw_at lw_m6 30 rfl) rfl
theorem q1337 : (Jvm.Cond.methodLink "PrinterClaims$Reader" (53 : Nat) ({ cls := "PrinterClaims$UnsafeException", name := "<init>", desc := "(I)V" } : Jvm.MethodName)) ∈ lw_all := lw_g (lw_at lw_m6 39 rfl) rfl
theorem q2950 : (Jvm.Cond.selects "PrinterClaims$Reader" ({ cls := "PrinterClaims$Scanner", name := "look", desc := "(II)I" } : Jvm.MethodName) ({ cls := "PrinterClaims$Scanner", name := "look", desc := "(II)I" } : Jvm.MethodName)) ∈ lw_all := lw_g (lw_at lw_m12 212 rfl) rfl
theorem q2968 : (Jvm.Cond.castable "PrinterClaims$Reader" "java/lang/Object") ∈ lw_tbl := lw_at lw_m12 230 rfl
theorem in_X6 : ∀ w ∈ wsX60, w ∈ lw_all := lw_in wsX60 [1095, 1097, 1099, 1101, 1103, 1105, 1107] (by decide +kernel) (by decide +kernel)

/-! PrinterClaims$TextException -/
set_option maxRecDepth 100000
def RX7 : String := "PrinterClaims$TextException"
abbrev cX7_init : ByteArray := prog_29_method_1_code
def yX7_init : MethodName := ⟨RX7, "<init>", "(I)V"⟩
def dkwX7_init_0 : List UInt8 := [42, 1, 1, 3, 3, 183, 0, 1, 42, 27, 181, 0, 7, 177]
abbrev dktX7_init_0 : List UInt8 := dkwX7_init_0 ++ []
theorem dksX7_init_0 : cX7_init.data.toList.drop 0 = dktX7_init_0 := by decide +kernel
theorem dX7_init_0 : decode cX7_init 0 = .ok (.aload_n 0, 1) := dk_42 (dk_at dksX7_init_0 0 rfl rfl)
theorem dX7_init_1 : decode cX7_init 1 = .ok (.aconst_null, 1) := dk_1 (dk_at dksX7_init_0 1 rfl rfl)
theorem dX7_init_2 : decode cX7_init 2 = .ok (.aconst_null, 1) := dk_1 (dk_at dksX7_init_0 2 rfl rfl)
theorem dX7_init_3 : decode cX7_init 3 = .ok (.iconst 0, 1) := dk_3 (dk_at dksX7_init_0 3 rfl rfl)
theorem dX7_init_4 : decode cX7_init 4 = .ok (.iconst 0, 1) := dk_3 (dk_at dksX7_init_0 4 rfl rfl)
theorem dX7_init_5 : decode cX7_init 5 = .ok (.invokespecial 1, 3) := dk_183 0 1 (dk_at dksX7_init_0 5 rfl rfl)
theorem dX7_init_8 : decode cX7_init 8 = .ok (.aload_n 0, 1) := dk_42 (dk_at dksX7_init_0 8 rfl rfl)
theorem dX7_init_9 : decode cX7_init 9 = .ok (.iload_n 1, 1) := dk_27 (dk_at dksX7_init_0 9 rfl rfl)
theorem dX7_init_10 : decode cX7_init 10 = .ok (.putfield 7, 3) := dk_181 0 7 (dk_at dksX7_init_0 10 rfl rfl)
theorem dX7_init_13 : decode cX7_init 13 = .ok (.return_, 1) := dk_177 (dk_at dksX7_init_0 13 rfl rfl)
theorem q125 : (Jvm.Cond.initialized "PrinterClaims$TextException") ∈ lw_all := lw_g (lw_at lw_m1 27 rfl) rfl
theorem q1148 : (Jvm.Cond.instanceMethod ({ cls := "PrinterClaims$TextException", name := "<init>", desc := "(I)V" } : Jvm.MethodName)) ∈ lw_all := lw_g (lw_at lw_m5 90 rfl) rfl
theorem q1149 : (Jvm.Cond.code ({ cls := "PrinterClaims$TextException", name := "<init>", desc := "(I)V" } : Jvm.MethodName) prog_29_method_1_code (2 : Nat) (Option.none : Option Jvm.ClassFile.FieldType)) ∈ lw_all := lw_g (lw_at lw_m5 91 rfl) rfl
theorem q1150 : (Jvm.Cond.methodLink "PrinterClaims$TextException" (1 : Nat) ({ cls := "java/lang/Exception", name := "<init>", desc := "(Ljava/lang/String;Ljava/lang/Throwable;ZZ)V" } : Jvm.MethodName)) ∈ lw_all := lw_g (lw_at lw_m5 92 rfl) rfl
theorem q1156 : (Jvm.Cond.fieldLink "PrinterClaims$TextException" (7 : Nat) "PrinterClaims$TextException" "offset" "I") ∈ lw_all := lw_g (lw_at lw_m5 98 rfl) rfl
theorem q1159 : (Jvm.Cond.soleField "PrinterClaims$TextException" "offset") ∈ lw_all := lw_g (lw_at lw_m5 101 rfl) rfl
theorem q1345 : (Jvm.Cond.declares ({ cls := "PrinterClaims$TextException", name := "code", desc := "()I" } : Jvm.MethodName)) ∈ lw_tbl := lw_at lw_m6 47 rfl
theorem q1346 : (Jvm.Cond.sameMethod "PrinterClaims$TextException" "PrinterClaims$TextException" "code" "()I") ∈ lw_all := lw_g (lw_at lw_m6 48 rfl) rfl

/-! PrinterClaims$SyntaxException -/
set_option maxRecDepth 100000
def RX8 : String := "PrinterClaims$SyntaxException"
def TX8 : u_T := fun k => match k with
  | 0 => ("PrinterClaims$TextException", "offset", "I", true)
  | 1 => ("java/lang/Throwable", "cause", "Ljava/lang/Throwable;", false)
  | 2 => ("java/lang/Throwable", "stackTrace", "[Ljava/lang/StackTraceElement;", false)
  | 3 => ("java/lang/Throwable", "suppressedExceptions", "Ljava/util/List;", false)
  | 4 => ("java/lang/Throwable", "detailMessage", "Ljava/lang/String;", false)
  | 5 => ("java/lang/Throwable", "backtrace", "Ljava/lang/Object;", false)
  | _ => ("java/lang/Throwable", "depth", "I", false)
def tyX8 : Nat → FieldType := fun k => match k with
  | 0 => .int
  | 1 => .object "java/lang/Throwable"
  | 2 => .array (.object "java/lang/StackTraceElement")
  | 3 => .object "java/util/List"
  | 4 => .object "java/lang/String"
  | 5 => .object "java/lang/Object"
  | _ => .int
abbrev wsX80 : List Cond := u_ws RX8 TX8 7
theorem nmX8 : ∀ a, a < 7 → ∀ b, b < 7 → a ≠ b → (TX8 a).2.1 ≠ (TX8 b).2.1 := by decide +kernel
theorem tyX8_ok : ∀ k, k < 7 → parseFieldDescriptor (TX8 k).2.2.1 = some (tyX8 k) := by decide +kernel
abbrev cX8_init : ByteArray := prog_28_method_1_code
def yX8_init : MethodName := ⟨RX8, "<init>", "(I)V"⟩
def dkwX8_init_0 : List UInt8 := [42, 27, 183, 0, 1, 177]
abbrev dktX8_init_0 : List UInt8 := dkwX8_init_0 ++ []
theorem dksX8_init_0 : cX8_init.data.toList.drop 0 = dktX8_init_0 := by decide +kernel
theorem dX8_init_0 : decode cX8_init 0 = .ok (.aload_n 0, 1) := dk_42 (dk_at dksX8_init_0 0 rfl rfl)
theorem dX8_init_1 : decode cX8_init 1 = .ok (.iload_n 1, 1) := dk_27 (dk_at dksX8_init_0 1 rfl rfl)
theorem dX8_init_2 : decode cX8_init 2 = .ok (.invokespecial 1, 3) := dk_183 0 1 (dk_at dksX8_init_0 2 rfl rfl)
theorem dX8_init_5 : decode cX8_init 5 = .ok (.return_, 1) := dk_177 (dk_at dksX8_init_0 5 rfl rfl)
abbrev cX8_code : ByteArray := prog_28_method_2_code
def yX8_code : MethodName := ⟨RX8, "code", "()I"⟩
theorem dX8_code_0 : decode cX8_code 0 = .ok (.iconst 1, 1) := by decide +kernel
theorem dX8_code_1 : decode cX8_code 1 = .ok (.ireturn, 1) := by decide +kernel
theorem q126 : (Jvm.Cond.initialized "PrinterClaims$SyntaxException") ∈ lw_all := lw_g (lw_at lw_m1 28 rfl) rfl
theorem q242 : (Jvm.Cond.selects "PrinterClaims$SyntaxException" ({ cls := "java/lang/Throwable", name := "fillInStackTrace", desc := "()Ljava/lang/Throwable;" } : Jvm.MethodName) ({ cls := "java/lang/Throwable", name := "fillInStackTrace", desc := "()Ljava/lang/Throwable;" } : Jvm.MethodName)) ∈ lw_all := lw_g (lw_at lw_m1 144 rfl) rfl
theorem q669 : (Jvm.Cond.selects "PrinterClaims$SyntaxException" ({ cls := "java/lang/Object", name := "getClass", desc := "()Ljava/lang/Class;" } : Jvm.MethodName) ({ cls := "java/lang/Object", name := "getClass", desc := "()Ljava/lang/Class;" } : Jvm.MethodName)) ∈ lw_all := lw_g (lw_at lw_m3 91 rfl) rfl
theorem q1136 : (Jvm.Cond.instantiable "PrinterClaims$SyntaxException" (7 : Nat)) ∈ lw_all := lw_g (lw_at lw_m5 78 rfl) rfl
theorem q1137 : (Jvm.Cond.castable "PrinterClaims$SyntaxException" "PrinterClaims$SyntaxException") ∈ lw_tbl := lw_at lw_m5 79 rfl
theorem q1138 : (Jvm.Cond.selects "PrinterClaims$SyntaxException" ({ cls := "java/lang/Throwable", name := "fillInStackTrace", desc := "(I)Ljava/lang/Throwable;" } : Jvm.MethodName) ({ cls := "java/lang/Throwable", name := "fillInStackTrace", desc := "(I)Ljava/lang/Throwable;" } : Jvm.MethodName)) ∈ lw_all := lw_g (lw_at lw_m5 80 rfl) rfl
theorem q1139 : (Jvm.Cond.lays "PrinterClaims$SyntaxException" "java/lang/Throwable" "cause" "Ljava/lang/Throwable;") ∈ lw_all := lw_g (lw_at lw_m5 81 rfl) rfl
theorem q1140 : (Jvm.Cond.lays "PrinterClaims$SyntaxException" "java/lang/Throwable" "stackTrace" "[Ljava/lang/StackTraceElement;") ∈ lw_all := lw_g (lw_at lw_m5 82 rfl) rfl
theorem q1141 : (Jvm.Cond.lays "PrinterClaims$SyntaxException" "java/lang/Throwable" "suppressedExceptions" "Ljava/util/List;") ∈ lw_all := lw_g (lw_at lw_m5 83 rfl) rfl
theorem q1142 : (Jvm.Cond.lays "PrinterClaims$SyntaxException" "java/lang/Throwable" "detailMessage" "Ljava/lang/String;") ∈ lw_all := lw_g (lw_at lw_m5 84 rfl) rfl
theorem q1143 : (Jvm.Cond.lays "PrinterClaims$SyntaxException" "java/lang/Throwable" "backtrace" "Ljava/lang/Object;") ∈ lw_all := lw_g (lw_at lw_m5 85 rfl) rfl
theorem q1145 : (Jvm.Cond.instanceMethod ({ cls := "PrinterClaims$SyntaxException", name := "<init>", desc := "(I)V" } : Jvm.MethodName)) ∈ lw_all := lw_g (lw_at lw_m5 87 rfl) rfl
theorem q1146 : (Jvm.Cond.code ({ cls := "PrinterClaims$SyntaxException", name := "<init>", desc := "(I)V" } : Jvm.MethodName) prog_28_method_1_code (2 : Nat) (Option.none : Option Jvm.ClassFile.FieldType)) ∈ lw_all := lw_g (lw_at lw_m5 88 rfl) rfl
theorem q1147 : (Jvm.Cond.methodLink "PrinterClaims$SyntaxException" (1 : Nat) ({ cls := "PrinterClaims$TextException", name := "<init>", desc := "(I)V" } : Jvm.MethodName)) ∈ lw_all := lw_g (lw_at lw_m5 89 rfl) rfl
theorem q1158 : (Jvm.Cond.laysFinal "PrinterClaims$SyntaxException" "PrinterClaims$TextException" "offset" "I") ∈ lw_all := lw_g (lw_at lw_m5 100 rfl) rfl
theorem q1160 : (Jvm.Cond.lays "PrinterClaims$SyntaxException" "java/lang/Throwable" "depth" "I") ∈ lw_all := lw_g (lw_at lw_m5 102 rfl) rfl
theorem q1161 : (Jvm.Cond.superclass "PrinterClaims$SyntaxException" "PrinterClaims$TextException") ∈ lw_all := lw_g (lw_at lw_m5 103 rfl) rfl
theorem q1356 : (Jvm.Cond.selects "PrinterClaims$SyntaxException" ({ cls := "PrinterClaims$TextException", name := "code", desc := "()I" } : Jvm.MethodName) ({ cls := "PrinterClaims$SyntaxException", name := "code", desc := "()I" } : Jvm.MethodName)) ∈ lw_all := lw_g (lw_at lw_m6 58 rfl) rfl
theorem q1357 : (Jvm.Cond.instanceMethod ({ cls := "PrinterClaims$SyntaxException", name := "code", desc := "()I" } : Jvm.MethodName)) ∈ lw_all := lw_g (lw_at lw_m6 59 rfl) rfl
theorem q1358 : (Jvm.Cond.code ({ cls := "PrinterClaims$SyntaxException", name := "code", desc := "()I" } : Jvm.MethodName) prog_28_method_2_code (1 : Nat) (Option.some Jvm.ClassFile.FieldType.int)) ∈ lw_all := lw_g (lw_at lw_m6 60 rfl) rfl
theorem q2956 : (Jvm.Cond.castable "PrinterClaims$SyntaxException" "PrinterClaims$TextException") ∈ lw_tbl := lw_at lw_m12 218 rfl
theorem q2969 : (Jvm.Cond.castable "PrinterClaims$SyntaxException" "java/lang/Object") ∈ lw_tbl := lw_at lw_m12 231 rfl
theorem in_X8 : ∀ w ∈ wsX80, w ∈ lw_all := lw_in wsX80 [1158, 1139, 1140, 1141, 1142, 1143, 1160] (by decide +kernel) (by decide +kernel)

/-! PrinterClaims$RangeException -/
set_option maxRecDepth 100000
def RX9 : String := "PrinterClaims$RangeException"
def TX9 : u_T := fun k => match k with
  | 0 => ("PrinterClaims$TextException", "offset", "I", true)
  | 1 => ("java/lang/Throwable", "cause", "Ljava/lang/Throwable;", false)
  | 2 => ("java/lang/Throwable", "stackTrace", "[Ljava/lang/StackTraceElement;", false)
  | 3 => ("java/lang/Throwable", "suppressedExceptions", "Ljava/util/List;", false)
  | 4 => ("java/lang/Throwable", "detailMessage", "Ljava/lang/String;", false)
  | 5 => ("java/lang/Throwable", "backtrace", "Ljava/lang/Object;", false)
  | _ => ("java/lang/Throwable", "depth", "I", false)
def tyX9 : Nat → FieldType := fun k => match k with
  | 0 => .int
  | 1 => .object "java/lang/Throwable"
  | 2 => .array (.object "java/lang/StackTraceElement")
  | 3 => .object "java/util/List"
  | 4 => .object "java/lang/String"
  | 5 => .object "java/lang/Object"
  | _ => .int
abbrev wsX90 : List Cond := u_ws RX9 TX9 7
theorem nmX9 : ∀ a, a < 7 → ∀ b, b < 7 → a ≠ b → (TX9 a).2.1 ≠ (TX9 b).2.1 := by decide +kernel
theorem tyX9_ok : ∀ k, k < 7 → parseFieldDescriptor (TX9 k).2.2.1 = some (tyX9 k) := by decide +kernel
abbrev cX9_init : ByteArray := prog_15_method_1_code
def yX9_init : MethodName := ⟨RX9, "<init>", "(I)V"⟩
def dkwX9_init_0 : List UInt8 := [42, 27, 183, 0, 1, 177]
abbrev dktX9_init_0 : List UInt8 := dkwX9_init_0 ++ []
theorem dksX9_init_0 : cX9_init.data.toList.drop 0 = dktX9_init_0 := by decide +kernel
theorem dX9_init_0 : decode cX9_init 0 = .ok (.aload_n 0, 1) := dk_42 (dk_at dksX9_init_0 0 rfl rfl)
theorem dX9_init_1 : decode cX9_init 1 = .ok (.iload_n 1, 1) := dk_27 (dk_at dksX9_init_0 1 rfl rfl)
theorem dX9_init_2 : decode cX9_init 2 = .ok (.invokespecial 1, 3) := dk_183 0 1 (dk_at dksX9_init_0 2 rfl rfl)
theorem dX9_init_5 : decode cX9_init 5 = .ok (.return_, 1) := dk_177 (dk_at dksX9_init_0 5 rfl rfl)
abbrev cX9_code : ByteArray := prog_15_method_2_code
def yX9_code : MethodName := ⟨RX9, "code", "()I"⟩
theorem dX9_code_0 : decode cX9_code 0 = .ok (.iconst 2, 1) := by decide +kernel
theorem dX9_code_1 : decode cX9_code 1 = .ok (.ireturn, 1) := by decide +kernel
theorem q127 : (Jvm.Cond.initialized "PrinterClaims$RangeException") ∈ lw_all := lw_g (lw_at lw_m1 29 rfl) rfl
theorem q238 : (Jvm.Cond.selects "PrinterClaims$RangeException" ({ cls := "java/lang/Throwable", name := "fillInStackTrace", desc := "()Ljava/lang/Throwable;" } : Jvm.MethodName) ({ cls := "java/lang/Throwable", name := "fillInStackTrace", desc := "()Ljava/lang/Throwable;" } : Jvm.MethodName)) ∈ lw_all := lw_g (lw_at lw_m1 140 rfl) rfl
theorem q658 : (Jvm.Cond.selects "PrinterClaims$RangeException" ({ cls := "java/lang/Object", name := "getClass", desc := "()Ljava/lang/Class;" } : Jvm.MethodName) ({ cls := "java/lang/Object", name := "getClass", desc := "()Ljava/lang/Class;" } : Jvm.MethodName)) ∈ lw_all := lw_g (lw_at lw_m3 80 rfl) rfl
theorem q1175 : (Jvm.Cond.instantiable "PrinterClaims$RangeException" (7 : Nat)) ∈ lw_all := lw_g (lw_at lw_m5 117 rfl) rfl
theorem q1176 : (Jvm.Cond.castable "PrinterClaims$RangeException" "PrinterClaims$RangeException") ∈ lw_tbl := lw_at lw_m5 118 rfl
theorem q1177 : (Jvm.Cond.selects "PrinterClaims$RangeException" ({ cls := "java/lang/Throwable", name := "fillInStackTrace", desc := "(I)Ljava/lang/Throwable;" } : Jvm.MethodName) ({ cls := "java/lang/Throwable", name := "fillInStackTrace", desc := "(I)Ljava/lang/Throwable;" } : Jvm.MethodName)) ∈ lw_all := lw_g (lw_at lw_m5 119 rfl) rfl
theorem q1178 : (Jvm.Cond.lays "PrinterClaims$RangeException" "java/lang/Throwable" "cause" "Ljava/lang/Throwable;") ∈ lw_all := lw_g (lw_at lw_m5 120 rfl) rfl
theorem q1179 : (Jvm.Cond.lays "PrinterClaims$RangeException" "java/lang/Throwable" "stackTrace" "[Ljava/lang/StackTraceElement;") ∈ lw_all := lw_g (lw_at lw_m5 121 rfl) rfl
theorem q1180 : (Jvm.Cond.lays "PrinterClaims$RangeException" "java/lang/Throwable" "suppressedExceptions" "Ljava/util/List;") ∈ lw_all := lw_g (lw_at lw_m5 122 rfl) rfl
theorem q1181 : (Jvm.Cond.lays "PrinterClaims$RangeException" "java/lang/Throwable" "detailMessage" "Ljava/lang/String;") ∈ lw_all := lw_g (lw_at lw_m5 123 rfl) rfl
theorem q1182 : (Jvm.Cond.lays "PrinterClaims$RangeException" "java/lang/Throwable" "backtrace" "Ljava/lang/Object;") ∈ lw_all := lw_g (lw_at lw_m5 124 rfl) rfl
theorem q1184 : (Jvm.Cond.instanceMethod ({ cls := "PrinterClaims$RangeException", name := "<init>", desc := "(I)V" } : Jvm.MethodName)) ∈ lw_all := lw_g (lw_at lw_m5 126 rfl) rfl
theorem q1185 : (Jvm.Cond.code ({ cls := "PrinterClaims$RangeException", name := "<init>", desc := "(I)V" } : Jvm.MethodName) prog_15_method_1_code (2 : Nat) (Option.none : Option Jvm.ClassFile.FieldType)) ∈ lw_all := lw_g (lw_at lw_m5 127 rfl) rfl
theorem q1186 : (Jvm.Cond.methodLink "PrinterClaims$RangeException" (1 : Nat) ({ cls := "PrinterClaims$TextException", name := "<init>", desc := "(I)V" } : Jvm.MethodName)) ∈ lw_all := lw_g (lw_at lw_m5 128 rfl) rfl
theorem q1187 : (Jvm.Cond.laysFinal "PrinterClaims$RangeException" "PrinterClaims$TextException" "offset" "I") ∈ lw_all := lw_g (lw_at lw_m5 129 rfl) rfl
theorem q1188 : (Jvm.Cond.lays "PrinterClaims$RangeException" "java/lang/Throwable" "depth" "I") ∈ lw_all := lw_g (lw_at lw_m5 130 rfl) rfl
theorem q1189 : (Jvm.Cond.superclass "PrinterClaims$RangeException" "PrinterClaims$TextException") ∈ lw_all := lw_g (lw_at lw_m5 131 rfl) rfl
theorem q1350 : (Jvm.Cond.selects "PrinterClaims$RangeException" ({ cls := "PrinterClaims$TextException", name := "code", desc := "()I" } : Jvm.MethodName) ({ cls := "PrinterClaims$RangeException", name := "code", desc := "()I" } : Jvm.MethodName)) ∈ lw_all := lw_g (lw_at lw_m6 52 rfl) rfl
theorem q1351 : (Jvm.Cond.instanceMethod ({ cls := "PrinterClaims$RangeException", name := "code", desc := "()I" } : Jvm.MethodName)) ∈ lw_all := lw_g (lw_at lw_m6 53 rfl) rfl
theorem q1352 : (Jvm.Cond.code ({ cls := "PrinterClaims$RangeException", name := "code", desc := "()I" } : Jvm.MethodName) prog_15_method_2_code (1 : Nat) (Option.some Jvm.ClassFile.FieldType.int)) ∈ lw_all := lw_g (lw_at lw_m6 54 rfl) rfl
theorem q2954 : (Jvm.Cond.castable "PrinterClaims$RangeException" "PrinterClaims$TextException") ∈ lw_tbl := lw_at lw_m12 216 rfl
theorem q2970 : (Jvm.Cond.castable "PrinterClaims$RangeException" "java/lang/Object") ∈ lw_tbl := lw_at lw_m12 232 rfl
theorem in_X9 : ∀ w ∈ wsX90, w ∈ lw_all := lw_in wsX90 [1187, 1178, 1179, 1180, 1181, 1182, 1188] (by decide +kernel) (by decide +kernel)

/-! PrinterClaims$LimitException -/
set_option maxRecDepth 100000
def RX10 : String := "PrinterClaims$LimitException"
def TX10 : u_T := fun k => match k with
  | 0 => ("PrinterClaims$TextException", "offset", "I", true)
  | 1 => ("java/lang/Throwable", "cause", "Ljava/lang/Throwable;", false)
  | 2 => ("java/lang/Throwable", "stackTrace", "[Ljava/lang/StackTraceElement;", false)
  | 3 => ("java/lang/Throwable", "suppressedExceptions", "Ljava/util/List;", false)
  | 4 => ("java/lang/Throwable", "detailMessage", "Ljava/lang/String;", false)
  | 5 => ("java/lang/Throwable", "backtrace", "Ljava/lang/Object;", false)
  | _ => ("java/lang/Throwable", "depth", "I", false)
def tyX10 : Nat → FieldType := fun k => match k with
  | 0 => .int
  | 1 => .object "java/lang/Throwable"
  | 2 => .array (.object "java/lang/StackTraceElement")
  | 3 => .object "java/util/List"
  | 4 => .object "java/lang/String"
  | 5 => .object "java/lang/Object"
  | _ => .int
abbrev wsX100 : List Cond := u_ws RX10 TX10 7
theorem nmX10 : ∀ a, a < 7 → ∀ b, b < 7 → a ≠ b → (TX10 a).2.1 ≠ (TX10 b).2.1 := by decide +kernel
theorem tyX10_ok : ∀ k, k < 7 → parseFieldDescriptor (TX10 k).2.2.1 = some (tyX10 k) := by decide +kernel
abbrev cX10_init : ByteArray := prog_4_method_1_code
def yX10_init : MethodName := ⟨RX10, "<init>", "(I)V"⟩
def dkwX10_init_0 : List UInt8 := [42, 27, 183, 0, 1, 177]
abbrev dktX10_init_0 : List UInt8 := dkwX10_init_0 ++ []
theorem dksX10_init_0 : cX10_init.data.toList.drop 0 = dktX10_init_0 := by decide +kernel
theorem dX10_init_0 : decode cX10_init 0 = .ok (.aload_n 0, 1) := dk_42 (dk_at dksX10_init_0 0 rfl rfl)
theorem dX10_init_1 : decode cX10_init 1 = .ok (.iload_n 1, 1) := dk_27 (dk_at dksX10_init_0 1 rfl rfl)
theorem dX10_init_2 : decode cX10_init 2 = .ok (.invokespecial 1, 3) := dk_183 0 1 (dk_at dksX10_init_0 2 rfl rfl)
theorem dX10_init_5 : decode cX10_init 5 = .ok (.return_, 1) := dk_177 (dk_at dksX10_init_0 5 rfl rfl)
abbrev cX10_code : ByteArray := prog_4_method_2_code
def yX10_code : MethodName := ⟨RX10, "code", "()I"⟩
theorem dX10_code_0 : decode cX10_code 0 = .ok (.iconst 3, 1) := by decide +kernel
theorem dX10_code_1 : decode cX10_code 1 = .ok (.ireturn, 1) := by decide +kernel
theorem q128 : (Jvm.Cond.initialized "PrinterClaims$LimitException") ∈ lw_all := lw_g (lw_at lw_m1 30 rfl) rfl
theorem q237 : (Jvm.Cond.selects "PrinterClaims$LimitException" ({ cls := "java/lang/Throwable", name := "fillInStackTrace", desc := "()Ljava/lang/Throwable;" } : Jvm.MethodName) ({ cls := "java/lang/Throwable", name := "fillInStackTrace", desc := "()Ljava/lang/Throwable;" } : Jvm.MethodName)) ∈ lw_all := lw_g (lw_at lw_m1 139 rfl) rfl
theorem q649 : (Jvm.Cond.selects "PrinterClaims$LimitException" ({ cls := "java/lang/Object", name := "getClass", desc := "()Ljava/lang/Class;" } : Jvm.MethodName) ({ cls := "java/lang/Object", name := "getClass", desc := "()Ljava/lang/Class;" } : Jvm.MethodName)) ∈ lw_all := lw_g (lw_at lw_m3 71 rfl) rfl
theorem q1197 : (Jvm.Cond.instantiable "PrinterClaims$LimitException" (7 : Nat)) ∈ lw_all := lw_g (lw_at lw_m5 139 rfl) rfl
theorem q1198 : (Jvm.Cond.castable "PrinterClaims$LimitException" "PrinterClaims$LimitException") ∈ lw_tbl := lw_at lw_m5 140 rfl
theorem q1199 : (Jvm.Cond.selects "PrinterClaims$LimitException" ({ cls := "java/lang/Throwable", name := "fillInStackTrace", desc := "(I)Ljava/lang/Throwable;" } : Jvm.MethodName) ({ cls := "java/lang/Throwable", name := "fillInStackTrace", desc := "(I)Ljava/lang/Throwable;" } : Jvm.MethodName)) ∈ lw_all := lw_g (lw_at lw_m5 141 rfl) rfl
theorem q1200 : (Jvm.Cond.lays "PrinterClaims$LimitException" "java/lang/Throwable" "cause" "Ljava/lang/Throwable;") ∈ lw_all := lw_g (lw_at lw_m5 142 rfl) rfl
theorem q1201 : (Jvm.Cond.lays "PrinterClaims$LimitException" "java/lang/Throwable" "stackTrace" "[Ljava/lang/StackTraceElement;") ∈ lw_all := lw_g (lw_at lw_m5 143 rfl) rfl
theorem q1202 : (Jvm.Cond.lays "PrinterClaims$LimitException" "java/lang/Throwable" "suppressedExceptions" "Ljava/util/List;") ∈ lw_all := lw_g (lw_at lw_m5 144 rfl) rfl
theorem q1203 : (Jvm.Cond.lays "PrinterClaims$LimitException" "java/lang/Throwable" "detailMessage" "Ljava/lang/String;") ∈ lw_all := lw_g (lw_at lw_m5 145 rfl) rfl
theorem q1204 : (Jvm.Cond.lays "PrinterClaims$LimitException" "java/lang/Throwable" "backtrace" "Ljava/lang/Object;") ∈ lw_all := lw_g (lw_at lw_m5 146 rfl) rfl
theorem q1206 : (Jvm.Cond.instanceMethod ({ cls := "PrinterClaims$LimitException", name := "<init>", desc := "(I)V" } : Jvm.MethodName)) ∈ lw_all := lw_g (lw_at lw_m5 148 rfl) rfl
theorem q1207 : (Jvm.Cond.code ({ cls := "PrinterClaims$LimitException", name := "<init>", desc := "(I)V" } : Jvm.MethodName) prog_4_method_1_code (2 : Nat) (Option.none : Option Jvm.ClassFile.FieldType)) ∈ lw_all := lw_g (lw_at lw_m5 149 rfl) rfl
theorem q1208 : (Jvm.Cond.methodLink "PrinterClaims$LimitException" (1 : Nat) ({ cls := "PrinterClaims$TextException", name := "<init>", desc := "(I)V" } : Jvm.MethodName)) ∈ lw_all := lw_g (lw_at lw_m5 150 rfl) rfl
theorem q1209 : (Jvm.Cond.laysFinal "PrinterClaims$LimitException" "PrinterClaims$TextException" "offset" "I") ∈ lw_all := lw_g (lw_at lw_m5 151 rfl) rfl
theorem q1210 : (Jvm.Cond.lays "PrinterClaims$LimitException" "java/lang/Throwable" "depth" "I") ∈ lw_all := lw_g (lw_at lw_m5 152 rfl) rfl
theorem q1211 : (Jvm.Cond.superclass "PrinterClaims$LimitException" "PrinterClaims$TextException") ∈ lw_all := lw_g (lw_at lw_m5 153 rfl) rfl
theorem q1347 : (Jvm.Cond.selects "PrinterClaims$LimitException" ({ cls := "PrinterClaims$TextException", name := "code", desc := "()I" } : Jvm.MethodName) ({ cls := "PrinterClaims$LimitException", name := "code", desc := "()I" } : Jvm.MethodName)) ∈ lw_all := lw_g (lw_at lw_m6 49 rfl) rfl
theorem q1348 : (Jvm.Cond.instanceMethod ({ cls := "PrinterClaims$LimitException", name := "code", desc := "()I" } : Jvm.MethodName)) ∈ lw_all := lw_g (lw_at lw_m6 50 rfl) rfl
theorem q1349 : (Jvm.Cond.code ({ cls := "PrinterClaims$LimitException", name := "code", desc := "()I" } : Jvm.MethodName) prog_4_method_2_code (1 : Nat) (Option.some Jvm.ClassFile.FieldType.int)) ∈ lw_all := lw_g (lw_at lw_m6 51 rfl) rfl
theorem q2953 : (Jvm.Cond.castable "PrinterClaims$LimitException" "PrinterClaims$TextException") ∈ lw_tbl := lw_at lw_m12 215 rfl
theorem q2971 : (Jvm.Cond.castable "PrinterClaims$LimitException" "java/lang/Object") ∈ lw_tbl := lw_at lw_m12 233 rfl
theorem in_X10 : ∀ w ∈ wsX100, w ∈ lw_all := lw_in wsX100 [1209, 1200, 1201, 1202, 1203, 1204, 1210] (by decide +kernel) (by decide +kernel)

/-! PrinterClaims$SumException -/
set_option maxRecDepth 100000
def RX11 : String := "PrinterClaims$SumException"
def TX11 : u_T := fun k => match k with
  | 0 => ("PrinterClaims$TextException", "offset", "I", true)
  | 1 => ("java/lang/Throwable", "cause", "Ljava/lang/Throwable;", false)
  | 2 => ("java/lang/Throwable", "stackTrace", "[Ljava/lang/StackTraceElement;", false)
  | 3 => ("java/lang/Throwable", "suppressedExceptions", "Ljava/util/List;", false)
  | 4 => ("java/lang/Throwable", "detailMessage", "Ljava/lang/String;", false)
  | 5 => ("java/lang/Throwable", "backtrace", "Ljava/lang/Object;", false)
  | _ => ("java/lang/Throwable", "depth", "I", false)
def tyX11 : Nat → FieldType := fun k => match k with
  | 0 => .int
  | 1 => .object "java/lang/Throwable"
  | 2 => .array (.object "java/lang/StackTraceElement")
  | 3 => .object "java/util/List"
  | 4 => .object "java/lang/String"
  | 5 => .object "java/lang/Object"
  | _ => .int
abbrev wsX110 : List Cond := u_ws RX11 TX11 7
theorem nmX11 : ∀ a, a < 7 → ∀ b, b < 7 → a ≠ b → (TX11 a).2.1 ≠ (TX11 b).2.1 := by decide +kernel
theorem tyX11_ok : ∀ k, k < 7 → parseFieldDescriptor (TX11 k).2.2.1 = some (tyX11 k) := by decide +kernel
abbrev cX11_init : ByteArray := prog_27_method_1_code
def yX11_init : MethodName := ⟨RX11, "<init>", "(I)V"⟩
def dkwX11_init_0 : List UInt8 := [42, 27, 183, 0, 1, 177]
abbrev dktX11_init_0 : List UInt8 := dkwX11_init_0 ++ []
theorem dksX11_init_0 : cX11_init.data.toList.drop 0 = dktX11_init_0 := by decide +kernel
theorem dX11_init_0 : decode cX11_init 0 = .ok (.aload_n 0, 1) := dk_42 (dk_at dksX11_init_0 0 rfl rfl)
theorem dX11_init_1 : decode cX11_init 1 = .ok (.iload_n 1, 1) := dk_27 (dk_at dksX11_init_0 1 rfl rfl)
theorem dX11_init_2 : decode cX11_init 2 = .ok (.invokespecial 1, 3) := dk_183 0 1 (dk_at dksX11_init_0 2 rfl rfl)
theorem dX11_init_5 : decode cX11_init 5 = .ok (.return_, 1) := dk_177 (dk_at dksX11_init_0 5 rfl rfl)
abbrev cX11_code : ByteArray := prog_27_method_2_code
def yX11_code : MethodName := ⟨RX11, "code", "()I"⟩
theorem dX11_code_0 : decode cX11_code 0 = .ok (.iconst 4, 1) := by decide +kernel
theorem dX11_code_1 : decode cX11_code 1 = .ok (.ireturn, 1) := by decide +kernel
theorem q130 : (Jvm.Cond.initialized "PrinterClaims$SumException") ∈ lw_all := lw_g (lw_at lw_m1 32 rfl) rfl
theorem q241 : (Jvm.Cond.selects "PrinterClaims$SumException" ({ cls := "java/lang/Throwable", name := "fillInStackTrace", desc := "()Ljava/lang/Throwable;" } : Jvm.MethodName) ({ cls := "java/lang/Throwable", name := "fillInStackTrace", desc := "()Ljava/lang/Throwable;" } : Jvm.MethodName)) ∈ lw_all := lw_g (lw_at lw_m1 143 rfl) rfl
theorem q668 : (Jvm.Cond.selects "PrinterClaims$SumException" ({ cls := "java/lang/Object", name := "getClass", desc := "()Ljava/lang/Class;" } : Jvm.MethodName) ({ cls := "java/lang/Object", name := "getClass", desc := "()Ljava/lang/Class;" } : Jvm.MethodName)) ∈ lw_all := lw_g (lw_at lw_m3 90 rfl) rfl
theorem q1259 : (Jvm.Cond.instantiable "PrinterClaims$SumException" (7 : Nat)) ∈ lw_all := lw_g (lw_at lw_m5 201 rfl) rfl
theorem q1260 : (Jvm.Cond.castable "PrinterClaims$SumException" "PrinterClaims$SumException") ∈ lw_tbl := lw_at lw_m5 202 rfl
theorem q1261 : (Jvm.Cond.selects "PrinterClaims$SumException" ({ cls := "java/lang/Throwable", name := "fillInStackTrace", desc := "(I)Ljava/lang/Throwable;" } : Jvm.MethodName) ({ cls := "java/lang/Throwable", name := "fillInStackTrace", desc := "(I)Ljava/lang/Throwable;" } : Jvm.MethodName)) ∈ lw_all := lw_g (lw_at lw_m5 203 rfl) rfl
theorem q1262 : (Jvm.Cond.lays "PrinterClaims$SumException" "java/lang/Throwable" "cause" "Ljava/lang/Throwable;") ∈ lw_all := lw_g (lw_at lw_m5 204 rfl) rfl
theorem q1263 : (Jvm.Cond.lays "PrinterClaims$SumException" "java/lang/Throwable" "stackTrace" "[Ljava/lang/StackTraceElement;") ∈ lw_all := lw_g (lw_at lw_m5 205 rfl) rfl
theorem q1264 : (Jvm.Cond.lays "PrinterClaims$SumException" "java/lang/Throwable" "suppressedExceptions" "Ljava/util/List;") ∈ lw_all := lw_g (lw_at lw_m5 206 rfl) rfl
theorem q1265 : (Jvm.Cond.lays "PrinterClaims$SumException" "java/lang/Throwable" "detailMessage" "Ljava/lang/String;") ∈ lw_all := lw_g (lw_at lw_m5 207 rfl) rfl
theorem q1266 : (Jvm.Cond.lays "PrinterClaims$SumException" "java/lang/Throwable" "backtrace" "Ljava/lang/Object;") ∈ lw_all := lw_g (lw_at lw_m5 208 rfl) rfl
theorem q1274 : (Jvm.Cond.instanceMethod ({ cls := "PrinterClaims$SumException", name := "<init>", desc := "(I)V" } : Jvm.MethodName)) ∈ lw_all := lw_g (lw_at lw_m5 216 rfl) rfl
theorem q1275 : (Jvm.Cond.code ({ cls := "PrinterClaims$SumException", name := "<init>", desc := "(I)V" } : Jvm.MethodName) prog_27_method_1_code (2 : Nat) (Option.none : Option Jvm.ClassFile.FieldType)) ∈ lw_all := lw_g (lw_at lw_m5 217 rfl) rfl
theorem q1276 : (Jvm.Cond.methodLink "PrinterClaims$SumException" (1 : Nat) ({ cls := "PrinterClaims$TextException", name := "<init>", desc := "(I)V" } : Jvm.MethodName)) ∈ lw_all := lw_g (lw_at lw_m5 218 rfl) rfl
theorem q1277 : (Jvm.Cond.laysFinal "PrinterClaims$SumException" "PrinterClaims$TextException" "offset" "I") ∈ lw_all := lw_g (lw_at lw_m5 219 rfl) rfl
theorem q1278 : (Jvm.Cond.lays "PrinterClaims$SumException" "java/lang/Throwable" "depth" "I") ∈ lw_all := lw_g (lw_at lw_m5 220 rfl) rfl
theorem q1279 : (Jvm.Cond.superclass "PrinterClaims$SumException" "PrinterClaims$TextException") ∈ lw_all := lw_g (lw_at lw_m5 221 rfl) rfl
theorem q1353 : (Jvm.Cond.selects "PrinterClaims$SumException" ({ cls := "PrinterClaims$TextException", name := "code", desc := "()I" } : Jvm.MethodName) ({ cls := "PrinterClaims$SumException", name := "code", desc := "()I" } : Jvm.MethodName)) ∈ lw_all := lw_g (lw_at lw_m6 55 rfl) rfl
theorem q1354 : (Jvm.Cond.instanceMethod ({ cls := "PrinterClaims$SumException", name := "code", desc := "()I" } : Jvm.MethodName)) ∈ lw_all := lw_g (lw_at lw_m6 56 rfl) rfl
theorem q1355 : (Jvm.Cond.code ({ cls := "PrinterClaims$SumException", name := "code", desc := "()I" } : Jvm.MethodName) prog_27_method_2_code (1 : Nat) (Option.some Jvm.ClassFile.FieldType.int)) ∈ lw_all := lw_g (lw_at lw_m6 57 rfl) rfl
theorem q2955 : (Jvm.Cond.castable "PrinterClaims$SumException" "PrinterClaims$TextException") ∈ lw_tbl := lw_at lw_m12 217 rfl
theorem q2972 : (Jvm.Cond.castable "PrinterClaims$SumException" "java/lang/Object") ∈ lw_tbl := lw_at lw_m12 234 rfl
theorem in_X11 : ∀ w ∈ wsX110, w ∈ lw_all := lw_in wsX110 [1277, 1262, 1263, 1264, 1265, 1266, 1278] (by decide +kernel) (by decide +kernel)

/-! PrinterClaims$Sequence -/
set_option maxRecDepth 100000
def RX12 : String := "PrinterClaims$Sequence"
def TX12 : u_T := fun k => match k with
  | 0 => ("PrinterClaims$Sequence", "order", "[I", true)
  | 1 => ("PrinterClaims$Sequence", "passed", "[Z", true)
  | 2 => ("PrinterClaims$Sequence", "offices", "I", true)
  | 3 => ("PrinterClaims$Sequence", "length", "I", false)
  | _ => ("PrinterClaims$Sequence", "seen", "[I", false)
def tyX12 : Nat → FieldType := fun k => match k with
  | 0 => .array .int
  | 1 => .array .boolean
  | 2 => .int
  | 3 => .int
  | _ => .array .int
abbrev wsX120 : List Cond := u_ws RX12 TX12 5
theorem nmX12 : ∀ a, a < 5 → ∀ b, b < 5 → a ≠ b → (TX12 a).2.1 ≠ (TX12 b).2.1 := by decide +kernel
theorem tyX12_ok : ∀ k, k < 5 → parseFieldDescriptor (TX12 k).2.2.1 = some (tyX12 k) := by decide +kernel
abbrev cX12_init : ByteArray := prog_24_method_1_code
def yX12_init : MethodName := ⟨RX12, "<init>", "(LPrinterClaims$State;I)V"⟩
def dkwX12_init_5 : List UInt8 := [182, 0, 41, 54, 4, 167, 255, 184, 177]
abbrev dktX12_init_5 : List UInt8 := dkwX12_init_5 ++ []
def dkwX12_init_4 : List UInt8 := [84, 42, 89, 180, 0, 45, 4, 96, 181, 0, 45, 43, 21, 4, 182, 0, 53, 45, 182, 0, 57, 42, 43, 45]
abbrev dktX12_init_4 : List UInt8 := dkwX12_init_4 ++ dktX12_init_5
def dkwX12_init_3 : List UInt8 := [192, 0, 49, 181, 0, 19, 42, 180, 0, 9, 42, 180, 0, 45, 21, 4, 79, 42, 180, 0, 15, 21, 4, 4]
abbrev dktX12_init_3 : List UInt8 := dkwX12_init_3 ++ dktX12_init_4
def dkwX12_init_2 : List UInt8 := [182, 0, 41, 54, 4, 21, 4, 2, 159, 0, 72, 42, 180, 0, 45, 28, 160, 0, 14, 42, 45, 182, 0, 48]
abbrev dktX12_init_2 : List UInt8 := dkwX12_init_2 ++ dktX12_init_3
def dkwX12_init_1 : List UInt8 := [181, 0, 19, 42, 43, 180, 0, 22, 185, 0, 28, 1, 0, 181, 0, 34, 43, 182, 0, 37, 78, 42, 43, 45]
abbrev dktX12_init_1 : List UInt8 := dkwX12_init_1 ++ dktX12_init_2
def dkwX12_init_0 : List UInt8 := [42, 183, 0, 3, 42, 16, 8, 188, 10, 181, 0, 9, 42, 16, 8, 188, 4, 181, 0, 15, 42, 3, 188, 10]
abbrev dktX12_init_0 : List UInt8 := dkwX12_init_0 ++ dktX12_init_1
theorem dksX12_init_0 : cX12_init.data.toList.drop 0 = dktX12_init_0 := by decide +kernel
theorem dksX12_init_1 : cX12_init.data.toList.drop 24 = dktX12_init_1 := dk_seg dksX12_init_0 24 rfl rfl
theorem dksX12_init_2 : cX12_init.data.toList.drop 48 = dktX12_init_2 := dk_seg dksX12_init_1 24 rfl rfl
theorem dksX12_init_3 : cX12_init.data.toList.drop 72 = dktX12_init_3 := dk_seg dksX12_init_2 24 rfl rfl
theorem dksX12_init_4 : cX12_init.data.toList.drop 96 = dktX12_init_4 := dk_seg dksX12_init_3 24 rfl rfl
theorem dksX12_init_5 : cX12_init.data.toList.drop 120 = dktX12_init_5 := dk_seg dksX12_init_4 24 rfl rfl
theorem dX12_init_0 : decode cX12_init 0 = .ok (.aload_n 0, 1) := dk_42 (dk_at dksX12_init_0 0 rfl rfl)
theorem dX12_init_1 : decode cX12_init 1 = .ok (.invokespecial 3, 3) := dk_183 0 3 (dk_at dksX12_init_0 1 rfl rfl)
theorem dX12_init_4 : decode cX12_init 4 = .ok (.aload_n 0, 1) := dk_42 (dk_at dksX12_init_0 4 rfl rfl)
theorem dX12_init_5 : decode cX12_init 5 = .ok (.bipush 8, 2) := dk_16 8 (dk_at dksX12_init_0 5 rfl rfl)
theorem dX12_init_7 : decode cX12_init 7 = .ok (.newarray .int, 2) := dk_188_10 (dk_at dksX12_init_0 7 rfl rfl)
theorem dX12_init_9 : decode cX12_init 9 = .ok (.putfield 9, 3) := dk_181 0 9 (dk_at dksX12_init_0 9 rfl rfl)
theorem dX12_init_12 : decode cX12_init 12 = .ok (.aload_n 0, 1) := dk_42 (dk_at dksX12_init_0 12 rfl rfl)
theorem dX12_init_13 : decode cX12_init 13 = .ok (.bipush 8, 2) := dk_16 8 (dk_at dksX12_init_0 13 rfl rfl)
theorem dX12_init_15 : decode cX12_init 15 = .ok (.newarray .boolean, 2) := dk_188_4 (dk_at dksX12_init_0 15 rfl rfl)
theorem dX12_init_17 : decode cX12_init 17 = .ok (.putfield 15, 3) := dk_181 0 15 (dk_at dksX12_init_0 17 rfl rfl)
theorem dX12_init_20 : decode cX12_init 20 = .ok (.aload_n 0, 1) := dk_42 (dk_at dksX12_init_0 20 rfl rfl)
theorem dX12_init_21 : decode cX12_init 21 = .ok (.iconst 0, 1) := dk_3 (dk_at dksX12_init_0 21 rfl rfl)
theorem dX12_init_22 : decode cX12_init 22 = .ok (.newarray .int, 2) := dk_188_10 (dk_at dksX12_init_0 22 rfl rfl)
theorem dX12_init_24 : decode cX12_init 24 = .ok (.putfield 19, 3) := dk_181 0 19 (dk_at dksX12_init_1 0 rfl rfl)
theorem dX12_init_27 : decode cX12_init 27 = .ok (.aload_n 0, 1) := dk_42 (dk_at dksX12_init_1 3 rfl rfl)
theorem dX12_init_28 : decode cX12_init 28 = .ok (.aload_n 1, 1) := dk_43 (dk_at dksX12_init_1 4 rfl rfl)
theorem dX12_init_29 : decode cX12_init 29 = .ok (.getfield 22, 3) := dk_180 0 22 (dk_at dksX12_init_1 5 rfl rfl)
theorem dX12_init_32 : decode cX12_init 32 = .ok (.invokeinterface 28 1, 5) := by decide +kernel
theorem dX12_init_37 : decode cX12_init 37 = .ok (.putfield 34, 3) := dk_181 0 34 (dk_at dksX12_init_1 13 rfl rfl)
theorem dX12_init_40 : decode cX12_init 40 = .ok (.aload_n 1, 1) := dk_43 (dk_at dksX12_init_1 16 rfl rfl)
theorem dX12_init_41 : decode cX12_init 41 = .ok (.invokevirtual 37, 3) := dk_182 0 37 (dk_at dksX12_init_1 17 rfl rfl)
theorem dX12_init_44 : decode cX12_init 44 = .ok (.astore_n 3, 1) := dk_78 (dk_at dksX12_init_1 20 rfl rfl)
theorem dX12_init_45 : decode cX12_init 45 = .ok (.aload_n 0, 1) := dk_42 (dk_at dksX12_init_1 21 rfl rfl)
theorem dX12_init_46 : decode cX12_init 46 = .ok (.aload_n 1, 1) := dk_43 (dk_at dksX12_init_1 22 rfl rfl)
theorem dX12_init_47 : decode cX12_init 47 = .ok (.aload_n 3, 1) := dk_45 (dk_at dksX12_init_1 23 rfl rfl)
theorem dX12_init_48 : decode cX12_init 48 = .ok (.invokevirtual 41, 3) := dk_182 0 41 (dk_at dksX12_init_2 0 rfl rfl)
theorem dX12_init_51 : decode cX12_init 51 = .ok (.istore 4, 2) := dk_54 4 (dk_at dksX12_init_2 3 rfl rfl)
theorem dX12_init_53 : decode cX12_init 53 = .ok (.iload 4, 2) := dk_21 4 (dk_at dksX12_init_2 5 rfl rfl)
theorem dX12_init_55 : decode cX12_init 55 = .ok (.iconst (-1), 1) := dk_2 (dk_at dksX12_init_2 7 rfl rfl)
theorem dX12_init_56 : decode cX12_init 56 = .ok (.if_icmp .eq 72, 3) := dk_159 0 72 (dk_at dksX12_init_2 8 rfl rfl)
theorem dX12_init_59 : decode cX12_init 59 = .ok (.aload_n 0, 1) := dk_42 (dk_at dksX12_init_2 11 rfl rfl)
theorem dX12_init_60 : decode cX12_init 60 = .ok (.getfield 45, 3) := dk_180 0 45 (dk_at dksX12_init_2 12 rfl rfl)
theorem dX12_init_63 : decode cX12_init 63 = .ok (.iload_n 2, 1) := dk_28 (dk_at dksX12_init_2 15 rfl rfl)
theorem dX12_init_64 : decode cX12_init 64 = .ok (.if_icmp .ne 14, 3) := dk_160 0 14 (dk_at dksX12_init_2 16 rfl rfl)
theorem dX12_init_67 : decode cX12_init 67 = .ok (.aload_n 0, 1) := dk_42 (dk_at dksX12_init_2 19 rfl rfl)
theorem dX12_init_68 : decode cX12_init 68 = .ok (.aload_n 3, 1) := dk_45 (dk_at dksX12_init_2 20 rfl rfl)
theorem dX12_init_69 : decode cX12_init 69 = .ok (.invokevirtual 48, 3) := dk_182 0 48 (dk_at dksX12_init_2 21 rfl rfl)
theorem dX12_init_72 : decode cX12_init 72 = .ok (.checkcast 49, 3) := dk_192 0 49 (dk_at dksX12_init_3 0 rfl rfl)
theorem dX12_init_75 : decode cX12_init 75 = .ok (.putfield 19, 3) := dk_181 0 19 (dk_at dksX12_init_3 3 rfl rfl)
theorem dX12_init_78 : decode cX12_init 78 = .ok (.aload_n 0, 1) := dk_42 (dk_at dksX12_init_3 6 rfl rfl)
theorem dX12_init_79 : decode cX12_init 79 = .ok (.getfield 9, 3) := dk_180 0 9 (dk_at dksX12_init_3 7 rfl rfl)
theorem dX12_init_82 : decode cX12_init 82 = .ok (.aload_n 0, 1) := dk_42 (dk_at dksX12_init_3 10 rfl rfl)
theorem dX12_init_83 : decode cX12_init 83 = .ok (.getfield 45, 3) := dk_180 0 45 (dk_at dksX12_init_3 11 rfl rfl)
theorem dX12_init_86 : decode cX12_init 86 = .ok (.iload 4, 2) := dk_21 4 (dk_at dksX12_init_3 14 rfl rfl)
theorem dX12_init_88 : decode cX12_init 88 = .ok (.iastore, 1) := dk_79 (dk_at dksX12_init_3 16 rfl rfl)
theorem dX12_init_89 : decode cX12_init 89 = .ok (.aload_n 0, 1) := dk_42 (dk_at dksX12_init_3 17 rfl rfl)
theorem dX12_init_90 : decode cX12_init 90 = .ok (.getfield 15, 3) := dk_180 0 15 (dk_at dksX12_init_3 18 rfl rfl)
theorem dX12_init_93 : decode cX12_init 93 = .ok (.iload 4, 2) := dk_21 4 (dk_at dksX12_init_3 21 rfl rfl)
theorem dX12_init_95 : decode cX12_init 95 = .ok (.iconst 1, 1) := dk_4 (dk_at dksX12_init_3 23 rfl rfl)
theorem dX12_init_96 : decode cX12_init 96 = .ok (.bastore, 1) := dk_84 (dk_at dksX12_init_4 0 rfl rfl)
theorem dX12_init_97 : decode cX12_init 97 = .ok (.aload_n 0, 1) := dk_42 (dk_at dksX12_init_4 1 rfl rfl)
theorem dX12_init_98 : decode cX12_init 98 = .ok (.dup, 1) := dk_89 (dk_at dksX12_init_4 2 rfl rfl)
theorem dX12_init_99 : decode cX12_init 99 = .ok (.getfield 45, 3) := dk_180 0 45 (dk_at dksX12_init_4 3 rfl rfl)
theorem dX12_init_102 : decode cX12_init 102 = .ok (.iconst 1, 1) := dk_4 (dk_at dksX12_init_4 6 rfl rfl)
theorem dX12_init_103 : decode cX12_init 103 = .ok (.iadd, 1) := dk_96 (dk_at dksX12_init_4 7 rfl rfl)
theorem dX12_init_104 : decode cX12_init 104 = .ok (.putfield 45, 3) := dk_181 0 45 (dk_at dksX12_init_4 8 rfl rfl)
theorem dX12_init_107 : decode cX12_init 107 = .ok (.aload_n 1, 1) := dk_43 (dk_at dksX12_init_4 11 rfl rfl)
theorem dX12_init_108 : decode cX12_init 108 = .ok (.iload 4, 2) := dk_21 4 (dk_at dksX12_init_4 12 rfl rfl)
theorem dX12_init_110 : decode cX12_init 110 = .ok (.invokevirtual 53, 3) := dk_182 0 53 (dk_at dksX12_init_4 14 rfl rfl)
theorem dX12_init_113 : decode cX12_init 113 = .ok (.aload_n 3, 1) := dk_45 (dk_at dksX12_init_4 17 rfl rfl)
theorem dX12_init_114 : decode cX12_init 114 = .ok (.invokevirtual 57, 3) := dk_182 0 57 (dk_at dksX12_init_4 18 rfl rfl)
theorem dX12_init_117 : decode cX12_init 117 = .ok (.aload_n 0, 1) := dk_42 (dk_at dksX12_init_4 21 rfl rfl)
theorem dX12_init_118 : decode cX12_init 118 = .ok (.aload_n 1, 1) := dk_43 (dk_at dksX12_init_4 22 rfl rfl)
theorem dX12_init_119 : decode cX12_init 119 = .ok (.aload_n 3, 1) := dk_45 (dk_at dksX12_init_4 23 rfl rfl)
theorem dX12_init_120 : decode cX12_init 120 = .ok (.invokevirtual 41, 3) := dk_182 0 41 (dk_at dksX12_init_5 0 rfl rfl)
theorem dX12_init_123 : decode cX12_init 123 = .ok (.istore 4, 2) := dk_54 4 (dk_at dksX12_init_5 3 rfl rfl)
theorem dX12_init_125 : decode cX12_init 125 = .ok (.goto (-72), 3) := dk_167 255 184 (dk_at dksX12_init_5 5 rfl rfl)
theorem dX12_init_128 : decode cX12_init 128 = .ok (.return_, 1) := dk_177 (dk_at dksX12_init_5 8 rfl rfl)
abbrev cX12_next : ByteArray := prog_24_method_2_code
def yX12_next : MethodName := ⟨RX12, "next", "(LPrinterClaims$State;[I)I"⟩
def dkwX12_next_1 : List UInt8 := [44, 182, 0, 63, 153, 0, 5, 29, 172, 132, 3, 1, 167, 255, 222, 2, 172]
abbrev dktX12_next_1 : List UInt8 := dkwX12_next_1 ++ []
def dkwX12_next_0 : List UInt8 := [3, 62, 29, 42, 180, 0, 34, 162, 0, 32, 42, 180, 0, 15, 29, 51, 154, 0, 17, 43, 29, 182, 0, 53]
abbrev dktX12_next_0 : List UInt8 := dkwX12_next_0 ++ dktX12_next_1
theorem dksX12_next_0 : cX12_next.data.toList.drop 0 = dktX12_next_0 := by decide +kernel
theorem dksX12_next_1 : cX12_next.data.toList.drop 24 = dktX12_next_1 := dk_seg dksX12_next_0 24 rfl rfl
theorem dX12_next_0 : decode cX12_next 0 = .ok (.iconst 0, 1) := dk_3 (dk_at dksX12_next_0 0 rfl rfl)
theorem dX12_next_1 : decode cX12_next 1 = .ok (.istore_n 3, 1) := dk_62 (dk_at dksX12_next_0 1 rfl rfl)
theorem dX12_next_2 : decode cX12_next 2 = .ok (.iload_n 3, 1) := dk_29 (dk_at dksX12_next_0 2 rfl rfl)
theorem dX12_next_3 : decode cX12_next 3 = .ok (.aload_n 0, 1) := dk_42 (dk_at dksX12_next_0 3 rfl rfl)
theorem dX12_next_4 : decode cX12_next 4 = .ok (.getfield 34, 3) := dk_180 0 34 (dk_at dksX12_next_0 4 rfl rfl)
theorem dX12_next_7 : decode cX12_next 7 = .ok (.if_icmp .ge 32, 3) := dk_162 0 32 (dk_at dksX12_next_0 7 rfl rfl)
theorem dX12_next_10 : decode cX12_next 10 = .ok (.aload_n 0, 1) := dk_42 (dk_at dksX12_next_0 10 rfl rfl)
theorem dX12_next_11 : decode cX12_next 11 = .ok (.getfield 15, 3) := dk_180 0 15 (dk_at dksX12_next_0 11 rfl rfl)
theorem dX12_next_14 : decode cX12_next 14 = .ok (.iload_n 3, 1) := dk_29 (dk_at dksX12_next_0 14 rfl rfl)
theorem dX12_next_15 : decode cX12_next 15 = .ok (.baload, 1) := dk_51 (dk_at dksX12_next_0 15 rfl rfl)
theorem dX12_next_16 : decode cX12_next 16 = .ok (.ifCond .ne 17, 3) := dk_154 0 17 (dk_at dksX12_next_0 16 rfl rfl)
theorem dX12_next_19 : decode cX12_next 19 = .ok (.aload_n 1, 1) := dk_43 (dk_at dksX12_next_0 19 rfl rfl)
theorem dX12_next_20 : decode cX12_next 20 = .ok (.iload_n 3, 1) := dk_29 (dk_at dksX12_next_0 20 rfl rfl)
theorem dX12_next_21 : decode cX12_next 21 = .ok (.invokevirtual 53, 3) := dk_182 0 53 (dk_at dksX12_next_0 21 rfl rfl)
theorem dX12_next_24 : decode cX12_next 24 = .ok (.aload_n 2, 1) := dk_44 (dk_at dksX12_next_1 0 rfl rfl)
theorem dX12_next_25 : decode cX12_next 25 = .ok (.invokevirtual 63, 3) := dk_182 0 63 (dk_at dksX12_next_1 1 rfl rfl)
theorem dX12_next_28 : decode cX12_next 28 = .ok (.ifCond .eq 5, 3) := dk_153 0 5 (dk_at dksX12_next_1 4 rfl rfl)
theorem dX12_next_31 : decode cX12_next 31 = .ok (.iload_n 3, 1) := dk_29 (dk_at dksX12_next_1 7 rfl rfl)
theorem dX12_next_32 : decode cX12_next 32 = .ok (.ireturn, 1) := dk_172 (dk_at dksX12_next_1 8 rfl rfl)
theorem dX12_next_33 : decode cX12_next 33 = .ok (.iinc 3 1, 3) := dk_132 3 1 (dk_at dksX12_next_1 9 rfl rfl)
theorem dX12_next_36 : decode cX12_next 36 = .ok (.goto (-34), 3) := dk_167 255 222 (dk_at dksX12_next_1 12 rfl rfl)
theorem dX12_next_39 : decode cX12_next 39 = .ok (.iconst (-1), 1) := dk_2 (dk_at dksX12_next_1 15 rfl rfl)
theorem dX12_next_40 : decode cX12_next 40 = .ok (.ireturn, 1) := dk_172 (dk_at dksX12_next_1 16 rfl rfl)
abbrev cX12_isWhole : ByteArray := prog_24_method_3_code
def yX12_isWhole : MethodName := ⟨RX12, "isWhole", "()Z"⟩
def dkwX12_isWhole_0 : List UInt8 := [42, 180, 0, 45, 42, 180, 0, 34, 160, 0, 7, 4, 167, 0, 4, 3, 172]
abbrev dktX12_isWhole_0 : List UInt8 := dkwX12_isWhole_0 ++ []
theorem dksX12_isWhole_0 : cX12_isWhole.data.toList.drop 0 = dktX12_isWhole_0 := by decide +kernel
theorem dX12_isWhole_0 : decode cX12_isWhole 0 = .ok (.aload_n 0, 1) := dk_42 (dk_at dksX12_isWhole_0 0 rfl rfl)
theorem dX12_isWhole_1 : decode cX12_isWhole 1 = .ok (.getfield 45, 3) := dk_180 0 45 (dk_at dksX12_isWhole_0 1 rfl rfl)
theorem dX12_isWhole_4 : decode cX12_isWhole 4 = .ok (.aload_n 0, 1) := dk_42 (dk_at dksX12_isWhole_0 4 rfl rfl)
theorem dX12_isWhole_5 : decode cX12_isWhole 5 = .ok (.getfield 34, 3) := dk_180 0 34 (dk_at dksX12_isWhole_0 5 rfl rfl)
theorem dX12_isWhole_8 : decode cX12_isWhole 8 = .ok (.if_icmp .ne 7, 3) := dk_160 0 7 (dk_at dksX12_isWhole_0 8 rfl rfl)
theorem dX12_isWhole_11 : decode cX12_isWhole 11 = .ok (.iconst 1, 1) := dk_4 (dk_at dksX12_isWhole_0 11 rfl rfl)
theorem dX12_isWhole_12 : decode cX12_isWhole 12 = .ok (.goto 4, 3) := dk_167 0 4 (dk_at dksX12_isWhole_0 12 rfl rfl)
theorem dX12_isWhole_15 : decode cX12_isWhole 15 = .ok (.iconst 0, 1) := dk_3 (dk_at dksX12_isWhole_0 15 rfl rfl)
theorem dX12_isWhole_16 : decode cX12_isWhole 16 = .ok (.ireturn, 1) := dk_172 (dk_at dksX12_isWhole_0 16 rfl rfl)
theorem q131 : (Jvm.Cond.initialized "PrinterClaims$Sequence") ∈ lw_all := lw_g (lw_at lw_m1 33 rfl) rfl
theorem q550 : (Jvm.Cond.fieldLinkNest "PrinterClaims$Sequence" (22 : Nat) "PrinterClaims$State" "offices" "Ljava/util/List;" "PrinterClaims") ∈ lw_tbl := lw_at lw_m2 212 rfl
theorem q665 : (Jvm.Cond.selects "PrinterClaims$Sequence" ({ cls := "java/lang/Object", name := "getClass", desc := "()Ljava/lang/Class;" } : Jvm.MethodName) ({ cls := "java/lang/Object", name := "getClass", desc := "()Ljava/lang/Class;" } : Jvm.MethodName)) ∈ lw_all := lw_g (lw_at lw_m3 87 rfl) rfl
theorem q1288 : (Jvm.Cond.instantiable "PrinterClaims$Sequence" (5 : Nat)) ∈ lw_all := lw_g (lw_at lw_m5 230 rfl) rfl
theorem q1290 : (Jvm.Cond.instanceMethod ({ cls := "PrinterClaims$Sequence", name := "<init>", desc := "(LPrinterClaims$State;I)V" } : Jvm.MethodName)) ∈ lw_all := lw_g (lw_at lw_m5 232 rfl) rfl
theorem q1291 : (Jvm.Cond.code ({ cls := "PrinterClaims$Sequence", name := "<init>", desc := "(LPrinterClaims$State;I)V" } : Jvm.MethodName) prog_24_method_1_code (5 : Nat) (Option.none : Option Jvm.ClassFile.FieldType)) ∈ lw_all := lw_g (lw_at lw_m5 233 rfl) rfl
theorem q1292 : (Jvm.Cond.methodLink "PrinterClaims$Sequence" (3 : Nat) ({ cls := "java/lang/Object", name := "<init>", desc := "()V" } : Jvm.MethodName)) ∈ lw_all := lw_g (lw_at lw_m5 234 rfl) rfl
theorem q1293 : (Jvm.Cond.interfaceEntry "PrinterClaims$Sequence" (28 : Nat)) ∈ lw_tbl := lw_at lw_m5 235 rfl
theorem q1294 : (Jvm.Cond.methodLink "PrinterClaims$Sequence" (28 : Nat) ({ cls := "java/util/List", name := "size", desc := "()I" } : Jvm.MethodName)) ∈ lw_all := lw_g (lw_at lw_m5 236 rfl) rfl
theorem q1295 : (Jvm.Cond.methodLink "PrinterClaims$Sequence" (37 : Nat) ({ cls := "PrinterClaims$State", name := "available", desc := "()[I" } : Jvm.MethodName)) ∈ lw_all := lw_g (lw_at lw_m5 237 rfl) rfl
theorem q1296 : (Jvm.Cond.methodLink "PrinterClaims$Sequence" (41 : Nat) ({ cls := "PrinterClaims$Sequence", name := "next", desc := "(LPrinterClaims$State;[I)I" } : Jvm.MethodName)) ∈ lw_all := lw_g (lw_at lw_m5 238 rfl) rfl
theorem q1297 : (Jvm.Cond.privateMethod ({ cls := "PrinterClaims$Sequence", name := "next", desc := "(LPrinterClaims$State;[I)I" } : Jvm.MethodName)) ∈ lw_tbl := lw_at lw_m5 239 rfl
theorem q1298 : (Jvm.Cond.instanceMethod ({ cls := "PrinterClaims$Sequence", name := "next", desc := "(LPrinterClaims$State;[I)I" } : Jvm.MethodName)) ∈ lw_all := lw_g (lw_at lw_m6 0 rfl) rfl
theorem q1299 : (Jvm.Cond.code ({ cls := "PrinterClaims$Sequence", name := "next", desc := "(LPrinterClaims$State;[I)I" } : Jvm.MethodName) prog_24_method_2_code (4 : Nat) (Option.some Jvm.ClassFile.FieldType.int)) ∈ lw_all := lw_g (lw_at lw_m6 1 rfl) rfl
theorem q1300 : (Jvm.Cond.methodLink "PrinterClaims$Sequence" (53 : Nat) ({ cls := "PrinterClaims$State", name := "get", desc := "(I)LPrinterClaims$Office;" } : Jvm.MethodName)) ∈ lw_all := lw_g (lw_at lw_m6 2 rfl) rfl
theorem q1301 : (Jvm.Cond.methodLink "PrinterClaims$Sequence" (63 : Nat) ({ cls := "PrinterClaims$Office", name := "fits", desc := "([I)Z" } : Jvm.MethodName)) ∈ lw_all := lw_g (lw_at lw_m6 3 rfl) rfl
theorem q1302 : (Jvm.Cond.methodLink "PrinterClaims$Sequence" (48 : Nat) ({ cls := "[I", name := "clone", desc := "()Ljava/lang/Object;" } : Jvm.MethodName)) ∈ lw_all := lw_g (lw_at lw_m6 4 rfl) rfl
theorem q1303 : (Jvm.Cond.classLink "PrinterClaims$Sequence" (49 : Nat) "[I") ∈ lw_all := lw_g (lw_at lw_m6 5 rfl) rfl
theorem q1304 : (Jvm.Cond.methodLink "PrinterClaims$Sequence" (57 : Nat) ({ cls := "PrinterClaims$Office", name := "giveTo", desc := "([I)V" } : Jvm.MethodName)) ∈ lw_all := lw_g (lw_at lw_m6 6 rfl) rfl
theorem q1305 : (Jvm.Cond.fieldLink "PrinterClaims$Sequence" (9 : Nat) "PrinterClaims$Sequence" "order" "[I") ∈ lw_all := lw_g (lw_at lw_m6 7 rfl) rfl
theorem q1307 : (Jvm.Cond.fieldLink "PrinterClaims$Sequence" (15 : Nat) "PrinterClaims$Sequence" "passed" "[Z") ∈ lw_all := lw_g (lw_at lw_m6 9 rfl) rfl
theorem q1308 : (Jvm.Cond.fieldLink "PrinterClaims$Sequence" (34 : Nat) "PrinterClaims$Sequence" "offices" "I") ∈ lw_all := lw_g (lw_at lw_m6 10 rfl) rfl
theorem q1309 : (Jvm.Cond.fieldLink "PrinterClaims$Sequence" (45 : Nat) "PrinterClaims$Sequence" "length" "I") ∈ lw_all := lw_g (lw_at lw_m6 11 rfl) rfl
theorem q1310 : (Jvm.Cond.fieldLink "PrinterClaims$Sequence" (19 : Nat) "PrinterClaims$Sequence" "seen" "[I") ∈ lw_all := lw_g (lw_at lw_m6 12 rfl) rfl
theorem q1312 : (Jvm.Cond.laysFinal "PrinterClaims$Sequence" "PrinterClaims$Sequence" "order" "[I") ∈ lw_all := lw_g (lw_at lw_m6 14 rfl) rfl
theorem q1313 : (Jvm.Cond.soleField "PrinterClaims$Sequence" "order") ∈ lw_all := lw_g (lw_at lw_m6 15 rfl) rfl
theorem q1314 : (Jvm.Cond.laysFinal "PrinterClaims$Sequence" "PrinterClaims$Sequence" "passed" "[Z") ∈ lw_all := lw_g (lw_at lw_m6 16 rfl) rfl
theorem q1315 : (Jvm.Cond.soleField "PrinterClaims$Sequence" "passed") ∈ lw_all := lw_g (lw_at lw_m6 17 rfl) rfl
theorem q1316 : (Jvm.Cond.laysFinal "PrinterClaims$Sequence" "PrinterClaims$Sequence" "offices" "I") ∈ lw_all := lw_g (lw_at lw_m6 18 rfl) rfl
theorem q1317 : (Jvm.Cond.soleField "PrinterClaims$Sequence" "offices") ∈ lw_all := lw_g (lw_at lw_m6 19 rfl) rfl
theorem q1318 : (Jvm.Cond.lays "PrinterClaims$Sequence" "PrinterClaims$Sequence" "length" "I") ∈ lw_all := lw_g (lw_at lw_m6 20 rfl) rfl
theorem q1319 : (Jvm.Cond.soleField "PrinterClaims$Sequence" "length") ∈ lw_all := lw_g (lw_at lw_m6 21 rfl) rfl
theorem q1320 : (Jvm.Cond.lays "PrinterClaims$Sequence" "PrinterClaims$Sequence" "seen" "[I") ∈ lw_all := lw_g (lw_at lw_m6 22 rfl) rfl
theorem q1321 : (Jvm.Cond.soleField "PrinterClaims$Sequence" "seen") ∈ lw_all := lw_g (lw_at lw_m6 23 rfl) rfl
theorem q1322 : (Jvm.Cond.superclass "PrinterClaims$Sequence" "java/lang/Object") ∈ lw_all := lw_g (lw_at lw_m6 24 rfl) rfl
theorem q1325 : (Jvm.Cond.instanceMethod ({ cls := "PrinterClaims$Sequence", name := "isWhole", desc := "()Z" } : Jvm.MethodName)) ∈ lw_all := lw_g (lw_at lw_m6 27 rfl) rfl
theorem q1326 : (Jvm.Cond.selects "PrinterClaims$Sequence" ({ cls := "PrinterClaims$Sequence", name := "isWhole", desc := "()Z" } : Jvm.MethodName) ({ cls := "PrinterClaims$Sequence", name := "isWhole", desc := "()Z" } : Jvm.MethodName)) ∈ lw_all := lw_g (lw_at lw_m6 28 rfl) rfl
theorem q1327 : (Jvm.Cond.code ({ cls := "PrinterClaims$Sequence", name := "isWhole", desc := "()Z" } : Jvm.MethodName) prog_24_method_3_code (1 : Nat) (Option.some Jvm.ClassFile.FieldType.boolean)) ∈ lw_all := lw_g (lw_at lw_m6 29 rfl) rfl
theorem q2973 : (Jvm.Cond.castable "PrinterClaims$Sequence" "java/lang/Object") ∈ lw_tbl := lw_at lw_m12 235 rfl
theorem in_X12 : ∀ w ∈ wsX120, w ∈ lw_all := lw_in wsX120 [1312, 1314, 1316, 1318, 1320] (by decide +kernel) (by decide +kernel)

/-! PrinterClaims$UnsafeException -/
set_option maxRecDepth 100000
def RX13 : String := "PrinterClaims$UnsafeException"
def TX13 : u_T := fun k => match k with
  | 0 => ("PrinterClaims$TextException", "offset", "I", true)
  | 1 => ("java/lang/Throwable", "cause", "Ljava/lang/Throwable;", false)
  | 2 => ("java/lang/Throwable", "stackTrace", "[Ljava/lang/StackTraceElement;", false)
  | 3 => ("java/lang/Throwable", "suppressedExceptions", "Ljava/util/List;", false)
  | 4 => ("java/lang/Throwable", "detailMessage", "Ljava/lang/String;", false)
  | 5 => ("java/lang/Throwable", "backtrace", "Ljava/lang/Object;", false)
  | _ => ("java/lang/Throwable", "depth", "I", false)
def tyX13 : Nat → FieldType := fun k => match k with
  | 0 => .int
  | 1 => .object "java/lang/Throwable"
  | 2 => .array (.object "java/lang/StackTraceElement")
  | 3 => .object "java/util/List"
  | 4 => .object "java/lang/String"
  | 5 => .object "java/lang/Object"
  | _ => .int
abbrev wsX130 : List Cond := u_ws RX13 TX13 7
theorem nmX13 : ∀ a, a < 7 → ∀ b, b < 7 → a ≠ b → (TX13 a).2.1 ≠ (TX13 b).2.1 := by decide +kernel
theorem tyX13_ok : ∀ k, k < 7 → parseFieldDescriptor (TX13 k).2.2.1 = some (tyX13 k) := by decide +kernel
abbrev cX13_init : ByteArray := prog_30_method_1_code
def yX13_init : MethodName := ⟨RX13, "<init>", "(I)V"⟩
def dkwX13_init_0 : List UInt8 := [42, 27, 183, 0, 1, 177]
abbrev dktX13_init_0 : List UInt8 := dkwX13_init_0 ++ []
theorem dksX13_init_0 : cX13_init.data.toList.drop 0 = dktX13_init_0 := by decide +kernel
theorem dX13_init_0 : decode cX13_init 0 = .ok (.aload_n 0, 1) := dk_42 (dk_at dksX13_init_0 0 rfl rfl)
theorem dX13_init_1 : decode cX13_init 1 = .ok (.iload_n 1, 1) := dk_27 (dk_at dksX13_init_0 1 rfl rfl)
theorem dX13_init_2 : decode cX13_init 2 = .ok (.invokespecial 1, 3) := dk_183 0 1 (dk_at dksX13_init_0 2 rfl rfl)
theorem dX13_init_5 : decode cX13_init 5 = .ok (.return_, 1) := dk_177 (dk_at dksX13_init_0 5 rfl rfl)
abbrev cX13_code : ByteArray := prog_30_method_2_code
def yX13_code : MethodName := ⟨RX13, "code", "()I"⟩
theorem dX13_code_0 : decode cX13_code 0 = .ok (.iconst 5, 1) := by decide +kernel
theorem dX13_code_1 : decode cX13_code 1 = .ok (.ireturn, 1) := by decide +kernel
theorem q132 : (Jvm.Cond.initialized "PrinterClaims$UnsafeException") ∈ lw_all := lw_g (lw_at lw_m1 34 rfl) rfl
theorem q243 : (Jvm.Cond.selects "PrinterClaims$UnsafeException" ({ cls := "java/lang/Throwable", name := "fillInStackTrace", desc := "()Ljava/lang/Throwable;" } : Jvm.MethodName) ({ cls := "java/lang/Throwable", name := "fillInStackTrace", desc := "()Ljava/lang/Throwable;" } : Jvm.MethodName)) ∈ lw_all := lw_g (lw_at lw_m1 145 rfl) rfl
theorem q670 : (Jvm.Cond.selects "PrinterClaims$UnsafeException" ({ cls := "java/lang/Object", name := "getClass", desc := "()Ljava/lang/Class;" } : Jvm.MethodName) ({ cls := "java/lang/Object", name := "getClass", desc := "()Ljava/lang/Class;" } : Jvm.MethodName)) ∈ lw_all := lw_g (lw_at lw_m3 92 rfl) rfl
theorem q1329 : (Jvm.Cond.instantiable "PrinterClaims$UnsafeException" (7 : Nat)) ∈ lw_all := lw_g (lw_at lw_m6 31 rfl) rfl
theorem q1330 : (Jvm.Cond.castable "PrinterClaims$UnsafeException" "PrinterClaims$UnsafeException") ∈ lw_tbl := lw_at lw_m6 32 rfl
theorem q1331 : (Jvm.Cond.selects "PrinterClaims$UnsafeException" ({ cls := "java/lang/Throwable", name := "fillInStackTrace", desc := "(I)Ljava/lang/Throwable;" } : Jvm.MethodName) ({ cls := "java/lang/Throwable", name := "fillInStackTrace", desc := "(I)Ljava/lang/Throwable;" } : Jvm.MethodName)) ∈ lw_all := lw_g (lw_at lw_m6 33 rfl) rfl
theorem q1332 : (Jvm.Cond.lays "PrinterClaims$UnsafeException" "java/lang/Throwable" "cause" "Ljava/lang/Throwable;") ∈ lw_all := lw_g (lw_at lw_m6 34 rfl) rfl
theorem q1333 : (Jvm.Cond.lays "PrinterClaims$UnsafeException" "java/lang/Throwable" "stackTrace" "[Ljava/lang/StackTraceElement;") ∈ lw_all := lw_g (lw_at lw_m6 35 rfl) rfl
theorem q1334 : (Jvm.Cond.lays "PrinterClaims$UnsafeException" "java/lang/Throwable" "suppressedExceptions" "Ljava/util/List;") ∈ lw_all := lw_g (lw_at lw_m6 36 rfl) rfl
theorem q1335 : (Jvm.Cond.lays "PrinterClaims$UnsafeException" "java/lang/Throwable" "detailMessage" "Ljava/lang/String;") ∈ lw_all := lw_g (lw_at lw_m6 37 rfl) rfl
theorem q1336 : (Jvm.Cond.lays "PrinterClaims$UnsafeException" "java/lang/Throwable" "backtrace" "Ljava/lang/Object;") ∈ lw_all := lw_g (lw_at lw_m6 38 rfl) rfl
theorem q1338 : (Jvm.Cond.instanceMethod ({ cls := "PrinterClaims$UnsafeException", name := "<init>", desc := "(I)V" } : Jvm.MethodName)) ∈ lw_all := lw_g (lw_at lw_m6 40 rfl) rfl
theorem q1339 : (Jvm.Cond.code ({ cls := "PrinterClaims$UnsafeException", name := "<init>", desc := "(I)V" } : Jvm.MethodName) prog_30_method_1_code (2 : Nat) (Option.none : Option Jvm.ClassFile.FieldType)) ∈ lw_all := lw_g (lw_at lw_m6 41 rfl) rfl
theorem q1340 : (Jvm.Cond.methodLink "PrinterClaims$UnsafeException" (1 : Nat) ({ cls := "PrinterClaims$TextException", name := "<init>", desc := "(I)V" } : Jvm.MethodName)) ∈ lw_all := lw_g (lw_at lw_m6 42 rfl) rfl
theorem q1341 : (Jvm.Cond.laysFinal "PrinterClaims$UnsafeException" "PrinterClaims$TextException" "offset" "I") ∈ lw_all := lw_g (lw_at lw_m6 43 rfl) rfl
theorem q1342 : (Jvm.Cond.lays "PrinterClaims$UnsafeException" "java/lang/Throwable" "depth" "I") ∈ lw_all := lw_g (lw_at lw_m6 44 rfl) rfl
theorem q1343 : (Jvm.Cond.superclass "PrinterClaims$UnsafeException" "PrinterClaims$TextException") ∈ lw_all := lw_g (lw_at lw_m6 45 rfl) rfl
theorem q1359 : (Jvm.Cond.selects "PrinterClaims$UnsafeException" ({ cls := "PrinterClaims$TextException", name := "code", desc := "()I" } : Jvm.MethodName) ({ cls := "PrinterClaims$UnsafeException", name := "code", desc := "()I" } : Jvm.MethodName)) ∈ lw_all := lw_g (lw_at lw_m6 61 rfl) rfl
theorem q1360 : (Jvm.Cond.instanceMethod ({ cls := "PrinterClaims$UnsafeException", name := "code", desc := "()I" } : Jvm.MethodName)) ∈ lw_all := lw_g (lw_at lw_m6 62 rfl) rfl
theorem q1361 : (Jvm.Cond.code ({ cls := "PrinterClaims$UnsafeException", name := "code", desc := "()I" } : Jvm.MethodName) prog_30_method_2_code (1 : Nat) (Option.some Jvm.ClassFile.FieldType.int)) ∈ lw_all := lw_g (lw_at lw_m6 63 rfl) rfl
theorem q2957 : (Jvm.Cond.castable "PrinterClaims$UnsafeException" "PrinterClaims$TextException") ∈ lw_tbl := lw_at lw_m12 219 rfl
theorem q2974 : (Jvm.Cond.castable "PrinterClaims$UnsafeException" "java/lang/Object") ∈ lw_tbl := lw_at lw_m12 236 rfl
theorem in_X13 : ∀ w ∈ wsX130, w ∈ lw_all := lw_in wsX130 [1341, 1332, 1333, 1334, 1335, 1336, 1342] (by decide +kernel) (by decide +kernel)

/-! PrinterClaims$Counting -/
set_option maxRecDepth 100000
def RX14 : String := "PrinterClaims$Counting"
def TX14 : u_T := fun k => match k with
  | 0 => ("PrinterClaims$Counting", "state", "LPrinterClaims$State;", true)
  | _ => ("PrinterClaims$Counting", "ways", "[I", true)
def tyX14 : Nat → FieldType := fun k => match k with
  | 0 => .object "PrinterClaims$State"
  | _ => .array .int
abbrev wsX140 : List Cond := u_ws RX14 TX14 2
theorem nmX14 : ∀ a, a < 2 → ∀ b, b < 2 → a ≠ b → (TX14 a).2.1 ≠ (TX14 b).2.1 := by decide +kernel
theorem tyX14_ok : ∀ k, k < 2 → parseFieldDescriptor (TX14 k).2.2.1 = some (tyX14 k) := by decide +kernel
abbrev cX14_init : ByteArray := prog_2_method_1_code
def yX14_init : MethodName := ⟨RX14, "<init>", "(LPrinterClaims$State;)V"⟩
def dkwX14_init_2 : List UInt8 := [46, 158, 0, 8, 42, 29, 182, 0, 31, 132, 3, 1, 167, 255, 234, 177]
abbrev dktX14_init_2 : List UInt8 := dkwX14_init_2 ++ []
def dkwX14_init_1 : List UInt8 := [188, 10, 181, 0, 27, 42, 180, 0, 27, 3, 4, 79, 3, 62, 29, 28, 162, 0, 23, 42, 180, 0, 27, 29]
abbrev dktX14_init_1 : List UInt8 := dkwX14_init_1 ++ dktX14_init_2
def dkwX14_init_0 : List UInt8 := [42, 183, 0, 3, 42, 43, 181, 0, 9, 4, 43, 180, 0, 15, 185, 0, 21, 1, 0, 120, 61, 42, 28]
abbrev dktX14_init_0 : List UInt8 := dkwX14_init_0 ++ dktX14_init_1
theorem dksX14_init_0 : cX14_init.data.toList.drop 0 = dktX14_init_0 := by decide +kernel
theorem dksX14_init_1 : cX14_init.data.toList.drop 23 = dktX14_init_1 := dk_seg dksX14_init_0 23 rfl rfl
theorem dksX14_init_2 : cX14_init.data.toList.drop 47 = dktX14_init_2 := dk_seg dksX14_init_1 24 rfl rfl
theorem dX14_init_0 : decode cX14_init 0 = .ok (.aload_n 0, 1) := dk_42 (dk_at dksX14_init_0 0 rfl rfl)
theorem dX14_init_1 : decode cX14_init 1 = .ok (.invokespecial 3, 3) := dk_183 0 3 (dk_at dksX14_init_0 1 rfl rfl)
theorem dX14_init_4 : decode cX14_init 4 = .ok (.aload_n 0, 1) := dk_42 (dk_at dksX14_init_0 4 rfl rfl)
theorem dX14_init_5 : decode cX14_init 5 = .ok (.aload_n 1, 1) := dk_43 (dk_at dksX14_init_0 5 rfl rfl)
theorem dX14_init_6 : decode cX14_init 6 = .ok (.putfield 9, 3) := dk_181 0 9 (dk_at dksX14_init_0 6 rfl rfl)
theorem dX14_init_9 : decode cX14_init 9 = .ok (.iconst 1, 1) := dk_4 (dk_at dksX14_init_0 9 rfl rfl)
theorem dX14_init_10 : decode cX14_init 10 = .ok (.aload_n 1, 1) := dk_43 (dk_at dksX14_init_0 10 rfl rfl)
theorem dX14_init_11 : decode cX14_init 11 = .ok (.getfield 15, 3) := dk_180 0 15 (dk_at dksX14_init_0 11 rfl rfl)
theorem dX14_init_14 : decode cX14_init 14 = .ok (.invokeinterface 21 1, 5) := by decide +kernel
theorem dX14_init_19 : decode cX14_init 19 = .ok (.ishl, 1) := dk_120 (dk_at dksX14_init_0 19 rfl rfl)
theorem dX14_init_20 : decode cX14_init 20 = .ok (.istore_n 2, 1) := dk_61 (dk_at dksX14_init_0 20 rfl rfl)
theorem dX14_init_21 : decode cX14_init 21 = .ok (.aload_n 0, 1) := dk_42 (dk_at dksX14_init_0 21 rfl rfl)
theorem dX14_init_22 : decode cX14_init 22 = .ok (.iload_n 2, 1) := dk_28 (dk_at dksX14_init_0 22 rfl rfl)
theorem dX14_init_23 : decode cX14_init 23 = .ok (.newarray .int, 2) := dk_188_10 (dk_at dksX14_init_1 0 rfl rfl)
theorem dX14_init_25 : decode cX14_init 25 = .ok (.putfield 27, 3) := dk_181 0 27 (dk_at dksX14_init_1 2 rfl rfl)
theorem dX14_init_28 : decode cX14_init 28 = .ok (.aload_n 0, 1) := dk_42 (dk_at dksX14_init_1 5 rfl rfl)
theorem dX14_init_29 : decode cX14_init 29 = .ok (.getfield 27, 3) := dk_180 0 27 (dk_at dksX14_init_1 6 rfl rfl)
theorem dX14_init_32 : decode cX14_init 32 = .ok (.iconst 0, 1) := dk_3 (dk_at dksX14_init_1 9 rfl rfl)
theorem dX14_init_33 : decode cX14_init 33 = .ok (.iconst 1, 1) := dk_4 (dk_at dksX14_init_1 10 rfl rfl)
theorem dX14_init_34 : decode cX14_init 34 = .ok (.iastore, 1) := dk_79 (dk_at dksX14_init_1 11 rfl rfl)
theorem dX14_init_35 : decode cX14_init 35 = .ok (.iconst 0, 1) := dk_3 (dk_at dksX14_init_1 12 rfl rfl)
theorem dX14_init_36 : decode cX14_init 36 = .ok (.istore_n 3, 1) := dk_62 (dk_at dksX14_init_1 13 rfl rfl)
theorem dX14_init_37 : decode cX14_init 37 = .ok (.iload_n 3, 1) := dk_29 (dk_at dksX14_init_1 14 rfl rfl)
theorem dX14_init_38 : decode cX14_init 38 = .ok (.iload_n 2, 1) := dk_28 (dk_at dksX14_init_1 15 rfl rfl)
theorem dX14_init_39 : decode cX14_init 39 = .ok (.if_icmp .ge 23, 3) := dk_162 0 23 (dk_at dksX14_init_1 16 rfl rfl)
theorem dX14_init_42 : decode cX14_init 42 = .ok (.aload_n 0, 1) := dk_42 (dk_at dksX14_init_1 19 rfl rfl)
theorem dX14_init_43 : decode cX14_init 43 = .ok (.getfield 27, 3) := dk_180 0 27 (dk_at dksX14_init_1 20 rfl rfl)
theorem dX14_init_46 : decode cX14_init 46 = .ok (.iload_n 3, 1) := dk_29 (dk_at dksX14_init_1 23 rfl rfl)
theorem dX14_init_47 : decode cX14_init 47 = .ok (.iaload, 1) := dk_46 (dk_at dksX14_init_2 0 rfl rfl)
theorem dX14_init_48 : decode cX14_init 48 = .ok (.ifCond .le 8, 3) := dk_158 0 8 (dk_at dksX14_init_2 1 rfl rfl)
theorem dX14_init_51 : decode cX14_init 51 = .ok (.aload_n 0, 1) := dk_42 (dk_at dksX14_init_2 4 rfl rfl)
theorem dX14_init_52 : decode cX14_init 52 = .ok (.iload_n 3, 1) := dk_29 (dk_at dksX14_init_2 5 rfl rfl)
theorem dX14_init_53 : decode cX14_init 53 = .ok (.invokevirtual 31, 3) := dk_182 0 31 (dk_at dksX14_init_2 6 rfl rfl)
theorem dX14_init_56 : decode cX14_init 56 = .ok (.iinc 3 1, 3) := dk_132 3 1 (dk_at dksX14_init_2 9 rfl rfl)
theorem dX14_init_59 : decode cX14_init 59 = .ok (.goto (-22), 3) := dk_167 255 234 (dk_at dksX14_init_2 12 rfl rfl)
theorem dX14_init_62 : decode cX14_init 62 = .ok (.return_, 1) := dk_177 (dk_at dksX14_init_2 15 rfl rfl)
abbrev cX14_goOn : ByteArray := prog_2_method_3_code
def yX14_goOn : MethodName := ⟨RX14, "goOn", "(I)V"⟩
def dkwX14_goOn_3 : List UInt8 := [180, 0, 27, 27, 46, 96, 79, 132, 3, 1, 167, 255, 183, 177]
abbrev dktX14_goOn_3 : List UInt8 := dkwX14_goOn_3 ++ []
def dkwX14_goOn_2 : List UInt8 := [167, 0, 4, 3, 54, 4, 21, 4, 153, 0, 22, 42, 180, 0, 27, 27, 4, 29, 120, 128, 92, 46, 42]
abbrev dktX14_goOn_2 : List UInt8 := dkwX14_goOn_2 ++ dktX14_goOn_3
def dkwX14_goOn_1 : List UInt8 := [27, 29, 122, 4, 126, 154, 0, 22, 42, 180, 0, 9, 29, 182, 0, 39, 44, 182, 0, 53, 153, 0, 7, 4]
abbrev dktX14_goOn_1 : List UInt8 := dkwX14_goOn_1 ++ dktX14_goOn_2
def dkwX14_goOn_0 : List UInt8 := [42, 27, 182, 0, 49, 77, 3, 62, 29, 42, 180, 0, 9, 180, 0, 15, 185, 0, 21, 1, 0, 162, 0, 63]
abbrev dktX14_goOn_0 : List UInt8 := dkwX14_goOn_0 ++ dktX14_goOn_1
theorem dksX14_goOn_0 : cX14_goOn.data.toList.drop 0 = dktX14_goOn_0 := by decide +kernel
theorem dksX14_goOn_1 : cX14_goOn.data.toList.drop 24 = dktX14_goOn_1 := dk_seg dksX14_goOn_0 24 rfl rfl
theorem dksX14_goOn_2 : cX14_goOn.data.toList.drop 48 = dktX14_goOn_2 := dk_seg dksX14_goOn_1 24 rfl rfl
theorem dksX14_goOn_3 : cX14_goOn.data.toList.drop 71 = dktX14_goOn_3 := dk_seg dksX14_goOn_2 23 rfl rfl
theorem dX14_goOn_0 : decode cX14_goOn 0 = .ok (.aload_n 0, 1) := dk_42 (dk_at dksX14_goOn_0 0 rfl rfl)
theorem dX14_goOn_1 : decode cX14_goOn 1 = .ok (.iload_n 1, 1) := dk_27 (dk_at dksX14_goOn_0 1 rfl rfl)
theorem dX14_goOn_2 : decode cX14_goOn 2 = .ok (.invokevirtual 49, 3) := dk_182 0 49 (dk_at dksX14_goOn_0 2 rfl rfl)
theorem dX14_goOn_5 : decode cX14_goOn 5 = .ok (.astore_n 2, 1) := dk_77 (dk_at dksX14_goOn_0 5 rfl rfl)
theorem dX14_goOn_6 : decode cX14_goOn 6 = .ok (.iconst 0, 1) := dk_3 (dk_at dksX14_goOn_0 6 rfl rfl)
theorem dX14_goOn_7 : decode cX14_goOn 7 = .ok (.istore_n 3, 1) := dk_62 (dk_at dksX14_goOn_0 7 rfl rfl)
theorem dX14_goOn_8 : decode cX14_goOn 8 = .ok (.iload_n 3, 1) := dk_29 (dk_at dksX14_goOn_0 8 rfl rfl)
theorem dX14_goOn_9 : decode cX14_goOn 9 = .ok (.aload_n 0, 1) := dk_42 (dk_at dksX14_goOn_0 9 rfl rfl)
theorem dX14_goOn_10 : decode cX14_goOn 10 = .ok (.getfield 9, 3) := dk_180 0 9 (dk_at dksX14_goOn_0 10 rfl rfl)
theorem dX14_goOn_13 : decode cX14_goOn 13 = .ok (.getfield 15, 3) := dk_180 0 15 (dk_at dksX14_goOn_0 13 rfl rfl)
theorem dX14_goOn_16 : decode cX14_goOn 16 = .ok (.invokeinterface 21 1, 5) := by decide +kernel
theorem dX14_goOn_21 : decode cX14_goOn 21 = .ok (.if_icmp .ge 63, 3) := dk_162 0 63 (dk_at dksX14_goOn_0 21 rfl rfl)
theorem dX14_goOn_24 : decode cX14_goOn 24 = .ok (.iload_n 1, 1) := dk_27 (dk_at dksX14_goOn_1 0 rfl rfl)
theorem dX14_goOn_25 : decode cX14_goOn 25 = .ok (.iload_n 3, 1) := dk_29 (dk_at dksX14_goOn_1 1 rfl rfl)
theorem dX14_goOn_26 : decode cX14_goOn 26 = .ok (.ishr, 1) := dk_122 (dk_at dksX14_goOn_1 2 rfl rfl)
theorem dX14_goOn_27 : decode cX14_goOn 27 = .ok (.iconst 1, 1) := dk_4 (dk_at dksX14_goOn_1 3 rfl rfl)
theorem dX14_goOn_28 : decode cX14_goOn 28 = .ok (.iand, 1) := dk_126 (dk_at dksX14_goOn_1 4 rfl rfl)
theorem dX14_goOn_29 : decode cX14_goOn 29 = .ok (.ifCond .ne 22, 3) := dk_154 0 22 (dk_at dksX14_goOn_1 5 rfl rfl)
theorem dX14_goOn_32 : decode cX14_goOn 32 = .ok (.aload_n 0, 1) := dk_42 (dk_at dksX14_goOn_1 8 rfl rfl)
theorem dX14_goOn_33 : decode cX14_goOn 33 = .ok (.getfield 9, 3) := dk_180 0 9 (dk_at dksX14_goOn_1 9 rfl rfl)
theorem dX14_goOn_36 : decode cX14_goOn 36 = .ok (.iload_n 3, 1) := dk_29 (dk_at dksX14_goOn_1 12 rfl rfl)
theorem dX14_goOn_37 : decode cX14_goOn 37 = .ok (.invokevirtual 39, 3) := dk_182 0 39 (dk_at dksX14_goOn_1 13 rfl rfl)
theorem dX14_goOn_40 : decode cX14_goOn 40 = .ok (.aload_n 2, 1) := dk_44 (dk_at dksX14_goOn_1 16 rfl rfl)
theorem dX14_goOn_41 : decode cX14_goOn 41 = .ok (.invokevirtual 53, 3) := dk_182 0 53 (dk_at dksX14_goOn_1 17 rfl rfl)
theorem dX14_goOn_44 : decode cX14_goOn 44 = .ok (.ifCond .eq 7, 3) := dk_153 0 7 (dk_at dksX14_goOn_1 20 rfl rfl)
theorem dX14_goOn_47 : decode cX14_goOn 47 = .ok (.iconst 1, 1) := dk_4 (dk_at dksX14_goOn_1 23 rfl rfl)
theorem dX14_goOn_48 : decode cX14_goOn 48 = .ok (.goto 4, 3) := dk_167 0 4 (dk_at dksX14_goOn_2 0 rfl rfl)
theorem dX14_goOn_51 : decode cX14_goOn 51 = .ok (.iconst 0, 1) := dk_3 (dk_at dksX14_goOn_2 3 rfl rfl)
theorem dX14_goOn_52 : decode cX14_goOn 52 = .ok (.istore 4, 2) := dk_54 4 (dk_at dksX14_goOn_2 4 rfl rfl)
theorem dX14_goOn_54 : decode cX14_goOn 54 = .ok (.iload 4, 2) := dk_21 4 (dk_at dksX14_goOn_2 6 rfl rfl)
theorem dX14_goOn_56 : decode cX14_goOn 56 = .ok (.ifCond .eq 22, 3) := dk_153 0 22 (dk_at dksX14_goOn_2 8 rfl rfl)
theorem dX14_goOn_59 : decode cX14_goOn 59 = .ok (.aload_n 0, 1) := dk_42 (dk_at dksX14_goOn_2 11 rfl rfl)
theorem dX14_goOn_60 : decode cX14_goOn 60 = .ok (.getfield 27, 3) := dk_180 0 27 (dk_at dksX14_goOn_2 12 rfl rfl)
theorem dX14_goOn_63 : decode cX14_goOn 63 = .ok (.iload_n 1, 1) := dk_27 (dk_at dksX14_goOn_2 15 rfl rfl)
theorem dX14_goOn_64 : decode cX14_goOn 64 = .ok (.iconst 1, 1) := dk_4 (dk_at dksX14_goOn_2 16 rfl rfl)
theorem dX14_goOn_65 : decode cX14_goOn 65 = .ok (.iload_n 3, 1) := dk_29 (dk_at dksX14_goOn_2 17 rfl rfl)
theorem dX14_goOn_66 : decode cX14_goOn 66 = .ok (.ishl, 1) := dk_120 (dk_at dksX14_goOn_2 18 rfl rfl)
theorem dX14_goOn_67 : decode cX14_goOn 67 = .ok (.ior, 1) := dk_128 (dk_at dksX14_goOn_2 19 rfl rfl)
theorem dX14_goOn_68 : decode cX14_goOn 68 = .ok (.dup2, 1) := dk_92 (dk_at dksX14_goOn_2 20 rfl rfl)
theorem dX14_goOn_69 : decode cX14_goOn 69 = .ok (.iaload, 1) := dk_46 (dk_at dksX14_goOn_2 21 rfl rfl)
theorem dX14_goOn_70 : decode cX14_goOn 70 = .ok (.aload_n 0, 1) := dk_42 (dk_at dksX14_goOn_2 22 rfl rfl)
theorem dX14_goOn_71 : decode cX14_goOn 71 = .ok (.getfield 27, 3) := dk_180 0 27 (dk_at dksX14_goOn_3 0 rfl rfl)
theorem dX14_goOn_74 : decode cX14_goOn 74 = .ok (.iload_n 1, 1) := dk_27 (dk_at dksX14_goOn_3 3 rfl rfl)
theorem dX14_goOn_75 : decode cX14_goOn 75 = .ok (.iaload, 1) := dk_46 (dk_at dksX14_goOn_3 4 rfl rfl)
theorem dX14_goOn_76 : decode cX14_goOn 76 = .ok (.iadd, 1) := dk_96 (dk_at dksX14_goOn_3 5 rfl rfl)
theorem dX14_goOn_77 : decode cX14_goOn 77 = .ok (.iastore, 1) := dk_79 (dk_at dksX14_goOn_3 6 rfl rfl)
theorem dX14_goOn_78 : decode cX14_goOn 78 = .ok (.iinc 3 1, 3) := dk_132 3 1 (dk_at dksX14_goOn_3 7 rfl rfl)
theorem dX14_goOn_81 : decode cX14_goOn 81 = .ok (.goto (-73), 3) := dk_167 255 183 (dk_at dksX14_goOn_3 10 rfl rfl)
theorem dX14_goOn_84 : decode cX14_goOn 84 = .ok (.return_, 1) := dk_177 (dk_at dksX14_goOn_3 13 rfl rfl)
abbrev cX14_there : ByteArray := prog_2_method_2_code
def yX14_there : MethodName := ⟨RX14, "there", "(I)[I"⟩
def dkwX14_there_2 : List UInt8 := [132, 3, 1, 167, 255, 216, 44, 176]
abbrev dktX14_there_2 : List UInt8 := dkwX14_there_2 ++ []
def dkwX14_there_1 : List UInt8 := [162, 0, 30, 27, 29, 122, 4, 126, 4, 160, 0, 15, 42, 180, 0, 9, 29, 182, 0, 39, 44, 182, 0, 43]
abbrev dktX14_there_1 : List UInt8 := dkwX14_there_1 ++ dktX14_there_2
def dkwX14_there_0 : List UInt8 := [42, 180, 0, 9, 182, 0, 35, 77, 3, 62, 29, 42, 180, 0, 9, 180, 0, 15, 185, 0, 21, 1, 0]
abbrev dktX14_there_0 : List UInt8 := dkwX14_there_0 ++ dktX14_there_1
theorem dksX14_there_0 : cX14_there.data.toList.drop 0 = dktX14_there_0 := by decide +kernel
theorem dksX14_there_1 : cX14_there.data.toList.drop 23 = dktX14_there_1 := dk_seg dksX14_there_0 23 rfl rfl
theorem dksX14_there_2 : cX14_there.data.toList.drop 47 = dktX14_there_2 := dk_seg dksX14_there_1 24 rfl rfl
theorem dX14_there_0 : decode cX14_there 0 = .ok (.aload_n 0, 1) := dk_42 (dk_at dksX14_there_0 0 rfl rfl)
theorem dX14_there_1 : decode cX14_there 1 = .ok (.getfield 9, 3) := dk_180 0 9 (dk_at dksX14_there_0 1 rfl rfl)
theorem dX14_there_4 : decode cX14_there 4 = .ok (.invokevirtual 35, 3) := dk_182 0 35 (dk_at dksX14_there_0 4 rfl rfl)
theorem dX14_there_7 : decode cX14_there 7 = .ok (.astore_n 2, 1) := dk_77 (dk_at dksX14_there_0 7 rfl rfl)
theorem dX14_there_8 : decode cX14_there 8 = .ok (.iconst 0, 1) := dk_3 (dk_at dksX14_there_0 8 rfl rfl)
theorem dX14_there_9 : decode cX14_there 9 = .ok (.istore_n 3, 1) := dk_62 (dk_at dksX14_there_0 9 rfl rfl)
theorem dX14_there_10 : decode cX14_there 10 = .ok (.iload_n 3, 1) := dk_29 (dk_at dksX14_there_0 10 rfl rfl)
theorem dX14_there_11 : decode cX14_there 11 = .ok (.aload_n 0, 1) := dk_42 (dk_at dksX14_there_0 11 rfl rfl)
theorem dX14_there_12 : decode cX14_there 12 = .ok (.getfield 9, 3) := dk_180 0 9 (dk_at dksX14_there_0 12 rfl rfl)
theorem dX14_there_15 : decode cX14_there 15 = .ok (.getfield 15, 3) := dk_180 0 15 (dk_at dksX14_there_0 15 rfl rfl)
theorem dX14_there_18 : decode cX14_there 18 = .ok (.invokeinterface 21 1, 5) := by decide +kernel
theorem dX14_there_23 : decode cX14_there 23 = .ok (.if_icmp .ge 30, 3) := dk_162 0 30 (dk_at dksX14_there_1 0 rfl rfl)
theorem dX14_there_26 : decode cX14_there 26 = .ok (.iload_n 1, 1) := dk_27 (dk_at dksX14_there_1 3 rfl rfl)
theorem dX14_there_27 : decode cX14_there 27 = .ok (.iload_n 3, 1) := dk_29 (dk_at dksX14_there_1 4 rfl rfl)
theorem dX14_there_28 : decode cX14_there 28 = .ok (.ishr, 1) := dk_122 (dk_at dksX14_there_1 5 rfl rfl)
theorem dX14_there_29 : decode cX14_there 29 = .ok (.iconst 1, 1) := dk_4 (dk_at dksX14_there_1 6 rfl rfl)
theorem dX14_there_30 : decode cX14_there 30 = .ok (.iand, 1) := dk_126 (dk_at dksX14_there_1 7 rfl rfl)
theorem dX14_there_31 : decode cX14_there 31 = .ok (.iconst 1, 1) := dk_4 (dk_at dksX14_there_1 8 rfl rfl)
theorem dX14_there_32 : decode cX14_there 32 = .ok (.if_icmp .ne 15, 3) := dk_160 0 15 (dk_at dksX14_there_1 9 rfl rfl)
theorem dX14_there_35 : decode cX14_there 35 = .ok (.aload_n 0, 1) := dk_42 (dk_at dksX14_there_1 12 rfl rfl)
theorem dX14_there_36 : decode cX14_there 36 = .ok (.getfield 9, 3) := dk_180 0 9 (dk_at dksX14_there_1 13 rfl rfl)
theorem dX14_there_39 : decode cX14_there 39 = .ok (.iload_n 3, 1) := dk_29 (dk_at dksX14_there_1 16 rfl rfl)
theorem dX14_there_40 : decode cX14_there 40 = .ok (.invokevirtual 39, 3) := dk_182 0 39 (dk_at dksX14_there_1 17 rfl rfl)
theorem dX14_there_43 : decode cX14_there 43 = .ok (.aload_n 2, 1) := dk_44 (dk_at dksX14_there_1 20 rfl rfl)
theorem dX14_there_44 : decode cX14_there 44 = .ok (.invokevirtual 43, 3) := dk_182 0 43 (dk_at dksX14_there_1 21 rfl rfl)
theorem dX14_there_47 : decode cX14_there 47 = .ok (.iinc 3 1, 3) := dk_132 3 1 (dk_at dksX14_there_2 0 rfl rfl)
theorem dX14_there_50 : decode cX14_there 50 = .ok (.goto (-40), 3) := dk_167 255 216 (dk_at dksX14_there_2 3 rfl rfl)
theorem dX14_there_53 : decode cX14_there 53 = .ok (.aload_n 2, 1) := dk_44 (dk_at dksX14_there_2 6 rfl rfl)
theorem dX14_there_54 : decode cX14_there 54 = .ok (.areturn, 1) := dk_176 (dk_at dksX14_there_2 7 rfl rfl)
abbrev cX14_all : ByteArray := prog_2_method_4_code
def yX14_all : MethodName := ⟨RX14, "all", "()I"⟩
def dkwX14_all_0 : List UInt8 := [42, 180, 0, 27, 42, 180, 0, 27, 190, 4, 100, 46, 172]
abbrev dktX14_all_0 : List UInt8 := dkwX14_all_0 ++ []
theorem dksX14_all_0 : cX14_all.data.toList.drop 0 = dktX14_all_0 := by decide +kernel
theorem dX14_all_0 : decode cX14_all 0 = .ok (.aload_n 0, 1) := dk_42 (dk_at dksX14_all_0 0 rfl rfl)
theorem dX14_all_1 : decode cX14_all 1 = .ok (.getfield 27, 3) := dk_180 0 27 (dk_at dksX14_all_0 1 rfl rfl)
theorem dX14_all_4 : decode cX14_all 4 = .ok (.aload_n 0, 1) := dk_42 (dk_at dksX14_all_0 4 rfl rfl)
theorem dX14_all_5 : decode cX14_all 5 = .ok (.getfield 27, 3) := dk_180 0 27 (dk_at dksX14_all_0 5 rfl rfl)
theorem dX14_all_8 : decode cX14_all 8 = .ok (.arraylength, 1) := dk_190 (dk_at dksX14_all_0 8 rfl rfl)
theorem dX14_all_9 : decode cX14_all 9 = .ok (.iconst 1, 1) := dk_4 (dk_at dksX14_all_0 9 rfl rfl)
theorem dX14_all_10 : decode cX14_all 10 = .ok (.isub, 1) := dk_100 (dk_at dksX14_all_0 10 rfl rfl)
theorem dX14_all_11 : decode cX14_all 11 = .ok (.iaload, 1) := dk_46 (dk_at dksX14_all_0 11 rfl rfl)
theorem dX14_all_12 : decode cX14_all 12 = .ok (.ireturn, 1) := dk_172 (dk_at dksX14_all_0 12 rfl rfl)
abbrev cX14_earliest : ByteArray := prog_2_method_6_code
def yX14_earliest : MethodName := ⟨RX14, "earliest", "(I)I"⟩
def dkwX14_earliest_3 : List UInt8 := [184, 0, 57, 167, 0, 4, 28, 61, 132, 3, 1, 167, 255, 179, 28, 172]
abbrev dktX14_earliest_3 : List UInt8 := dkwX14_earliest_3 ++ []
def dkwX14_earliest_2 : List UInt8 := [153, 0, 29, 42, 180, 0, 9, 27, 182, 0, 39, 42, 29, 182, 0, 49, 182, 0, 53, 153, 0, 10, 29]
abbrev dktX14_earliest_2 : List UInt8 := dkwX14_earliest_2 ++ dktX14_earliest_3
def dkwX14_earliest_1 : List UInt8 := [27, 122, 4, 126, 154, 0, 15, 29, 184, 0, 57, 28, 162, 0, 7, 4, 167, 0, 4, 3, 54, 4, 21, 4]
abbrev dktX14_earliest_1 : List UInt8 := dkwX14_earliest_1 ++ dktX14_earliest_2
def dkwX14_earliest_0 : List UInt8 := [16, 8, 61, 3, 62, 29, 42, 180, 0, 27, 190, 162, 0, 74, 42, 180, 0, 27, 29, 46, 158, 0, 23, 29]
abbrev dktX14_earliest_0 : List UInt8 := dkwX14_earliest_0 ++ dktX14_earliest_1
theorem dksX14_earliest_0 : cX14_earliest.data.toList.drop 0 = dktX14_earliest_0 := by decide +kernel
theorem dksX14_earliest_1 : cX14_earliest.data.toList.drop 24 = dktX14_earliest_1 := dk_seg dksX14_earliest_0 24 rfl rfl
theorem dksX14_earliest_2 : cX14_earliest.data.toList.drop 48 = dktX14_earliest_2 := dk_seg dksX14_earliest_1 24 rfl rfl
theorem dksX14_earliest_3 : cX14_earliest.data.toList.drop 71 = dktX14_earliest_3 := dk_seg dksX14_earliest_2 23 rfl rfl
theorem dX14_earliest_0 : decode cX14_earliest 0 = .ok (.bipush 8, 2) := dk_16 8 (dk_at dksX14_earliest_0 0 rfl rfl)
theorem dX14_earliest_2 : decode cX14_earliest 2 = .ok (.istore_n 2, 1) := dk_61 (dk_at dksX14_earliest_0 2 rfl rfl)
theorem dX14_earliest_3 : decode cX14_earliest 3 = .ok (.iconst 0, 1) := dk_3 (dk_at dksX14_earliest_0 3 rfl rfl)
theorem dX14_earliest_4 : decode cX14_earliest 4 = .ok (.istore_n 3, 1) := dk_62 (dk_at dksX14_earliest_0 4 rfl rfl)
theorem dX14_earliest_5 : decode cX14_earliest 5 = .ok (.iload_n 3, 1) := dk_29 (dk_at dksX14_earliest_0 5 rfl rfl)
theorem dX14_earliest_6 : decode cX14_earliest 6 = .ok (.aload_n 0, 1) := dk_42 (dk_at dksX14_earliest_0 6 rfl rfl)
theorem dX14_earliest_7 : decode cX14_earliest 7 = .ok (.getfield 27, 3) := dk_180 0 27 (dk_at dksX14_earliest_0 7 rfl rfl)
theorem dX14_earliest_10 : decode cX14_earliest 10 = .ok (.arraylength, 1) := dk_190 (dk_at dksX14_earliest_0 10 rfl rfl)
theorem dX14_earliest_11 : decode cX14_earliest 11 = .ok (.if_icmp .ge 74, 3) := dk_162 0 74 (dk_at dksX14_earliest_0 11 rfl rfl)
theorem dX14_earliest_14 : decode cX14_earliest 14 = .ok (.aload_n 0, 1) := dk_42 (dk_at dksX14_earliest_0 14 rfl rfl)
theorem dX14_earliest_15 : decode cX14_earliest 15 = .ok (.getfield 27, 3) := dk_180 0 27 (dk_at dksX14_earliest_0 15 rfl rfl)
theorem dX14_earliest_18 : decode cX14_earliest 18 = .ok (.iload_n 3, 1) := dk_29 (dk_at dksX14_earliest_0 18 rfl rfl)
theorem dX14_earliest_19 : decode cX14_earliest 19 = .ok (.iaload, 1) := dk_46 (dk_at dksX14_earliest_0 19 rfl rfl)
theorem dX14_earliest_20 : decode cX14_earliest 20 = .ok (.ifCond .le 23, 3) := dk_158 0 23 (dk_at dksX14_earliest_0 20 rfl rfl)
theorem dX14_earliest_23 : decode cX14_earliest 23 = .ok (.iload_n 3, 1) := dk_29 (dk_at dksX14_earliest_0 23 rfl rfl)
theorem dX14_earliest_24 : decode cX14_earliest 24 = .ok (.iload_n 1, 1) := dk_27 (dk_at dksX14_earliest_1 0 rfl rfl)
theorem dX14_earliest_25 : decode cX14_earliest 25 = .ok (.ishr, 1) := dk_122 (dk_at dksX14_earliest_1 1 rfl rfl)
theorem dX14_earliest_26 : decode cX14_earliest 26 = .ok (.iconst 1, 1) := dk_4 (dk_at dksX14_earliest_1 2 rfl rfl)
theorem dX14_earliest_27 : decode cX14_earliest 27 = .ok (.iand, 1) := dk_126 (dk_at dksX14_earliest_1 3 rfl rfl)
theorem dX14_earliest_28 : decode cX14_earliest 28 = .ok (.ifCond .ne 15, 3) := dk_154 0 15 (dk_at dksX14_earliest_1 4 rfl rfl)
theorem dX14_earliest_31 : decode cX14_earliest 31 = .ok (.iload_n 3, 1) := dk_29 (dk_at dksX14_earliest_1 7 rfl rfl)
theorem dX14_earliest_32 : decode cX14_earliest 32 = .ok (.invokestatic 57, 3) := dk_184 0 57 (dk_at dksX14_earliest_1 8 rfl rfl)
theorem dX14_earliest_35 : decode cX14_earliest 35 = .ok (.iload_n 2, 1) := dk_28 (dk_at dksX14_earliest_1 11 rfl rfl)
theorem dX14_earliest_36 : decode cX14_earliest 36 = .ok (.if_icmp .ge 7, 3) := dk_162 0 7 (dk_at dksX14_earliest_1 12 rfl rfl)
theorem dX14_earliest_39 : decode cX14_earliest 39 = .ok (.iconst 1, 1) := dk_4 (dk_at dksX14_earliest_1 15 rfl rfl)
theorem dX14_earliest_40 : decode cX14_earliest 40 = .ok (.goto 4, 3) := dk_167 0 4 (dk_at dksX14_earliest_1 16 rfl rfl)
theorem dX14_earliest_43 : decode cX14_earliest 43 = .ok (.iconst 0, 1) := dk_3 (dk_at dksX14_earliest_1 19 rfl rfl)
theorem dX14_earliest_44 : decode cX14_earliest 44 = .ok (.istore 4, 2) := dk_54 4 (dk_at dksX14_earliest_1 20 rfl rfl)
theorem dX14_earliest_46 : decode cX14_earliest 46 = .ok (.iload 4, 2) := dk_21 4 (dk_at dksX14_earliest_1 22 rfl rfl)
theorem dX14_earliest_48 : decode cX14_earliest 48 = .ok (.ifCond .eq 29, 3) := dk_153 0 29 (dk_at dksX14_earliest_2 0 rfl rfl)
theorem dX14_earliest_51 : decode cX14_earliest 51 = .ok (.aload_n 0, 1) := dk_42 (dk_at dksX14_earliest_2 3 rfl rfl)
theorem dX14_earliest_52 : decode cX14_earliest 52 = .ok (.getfield 9, 3) := dk_180 0 9 (dk_at dksX14_earliest_2 4 rfl rfl)
theorem dX14_earliest_55 : decode cX14_earliest 55 = .ok (.iload_n 1, 1) := dk_27 (dk_at dksX14_earliest_2 7 rfl rfl)
theorem dX14_earliest_56 : decode cX14_earliest 56 = .ok (.invokevirtual 39, 3) := dk_182 0 39 (dk_at dksX14_earliest_2 8 rfl rfl)
theorem dX14_earliest_59 : decode cX14_earliest 59 = .ok (.aload_n 0, 1) := dk_42 (dk_at dksX14_earliest_2 11 rfl rfl)
theorem dX14_earliest_60 : decode cX14_earliest 60 = .ok (.iload_n 3, 1) := dk_29 (dk_at dksX14_earliest_2 12 rfl rfl)
theorem dX14_earliest_61 : decode cX14_earliest 61 = .ok (.invokevirtual 49, 3) := dk_182 0 49 (dk_at dksX14_earliest_2 13 rfl rfl)
theorem dX14_earliest_64 : decode cX14_earliest 64 = .ok (.invokevirtual 53, 3) := dk_182 0 53 (dk_at dksX14_earliest_2 16 rfl rfl)
theorem dX14_earliest_67 : decode cX14_earliest 67 = .ok (.ifCond .eq 10, 3) := dk_153 0 10 (dk_at dksX14_earliest_2 19 rfl rfl)
theorem dX14_earliest_70 : decode cX14_earliest 70 = .ok (.iload_n 3, 1) := dk_29 (dk_at dksX14_earliest_2 22 rfl rfl)
theorem dX14_earliest_71 : decode cX14_earliest 71 = .ok (.invokestatic 57, 3) := dk_184 0 57 (dk_at dksX14_earliest_3 0 rfl rfl)
theorem dX14_earliest_74 : decode cX14_earliest 74 = .ok (.goto 4, 3) := dk_167 0 4 (dk_at dksX14_earliest_3 3 rfl rfl)
theorem dX14_earliest_77 : decode cX14_earliest 77 = .ok (.iload_n 2, 1) := dk_28 (dk_at dksX14_earliest_3 6 rfl rfl)
theorem dX14_earliest_78 : decode cX14_earliest 78 = .ok (.istore_n 2, 1) := dk_61 (dk_at dksX14_earliest_3 7 rfl rfl)
theorem dX14_earliest_79 : decode cX14_earliest 79 = .ok (.iinc 3 1, 3) := dk_132 3 1 (dk_at dksX14_earliest_3 8 rfl rfl)
theorem dX14_earliest_82 : decode cX14_earliest 82 = .ok (.goto (-77), 3) := dk_167 255 179 (dk_at dksX14_earliest_3 11 rfl rfl)
theorem dX14_earliest_85 : decode cX14_earliest 85 = .ok (.iload_n 2, 1) := dk_28 (dk_at dksX14_earliest_3 14 rfl rfl)
theorem dX14_earliest_86 : decode cX14_earliest 86 = .ok (.ireturn, 1) := dk_172 (dk_at dksX14_earliest_3 15 rfl rfl)
abbrev cX14_size : ByteArray := prog_2_method_5_code
def yX14_size : MethodName := ⟨RX14, "size", "(I)I"⟩
def dkwX14_size_0 : List UInt8 := [3, 60, 26, 61, 28, 158, 0, 16, 27, 28, 4, 126, 96, 60, 28, 4, 122, 61, 167, 255, 242, 27, 172]
abbrev dktX14_size_0 : List UInt8 := dkwX14_size_0 ++ []
theorem dksX14_size_0 : cX14_size.data.toList.drop 0 = dktX14_size_0 := by decide +kernel
theorem dX14_size_0 : decode cX14_size 0 = .ok (.iconst 0, 1) := dk_3 (dk_at dksX14_size_0 0 rfl rfl)
theorem dX14_size_1 : decode cX14_size 1 = .ok (.istore_n 1, 1) := dk_60 (dk_at dksX14_size_0 1 rfl rfl)
theorem dX14_size_2 : decode cX14_size 2 = .ok (.iload_n 0, 1) := dk_26 (dk_at dksX14_size_0 2 rfl rfl)
theorem dX14_size_3 : decode cX14_size 3 = .ok (.istore_n 2, 1) := dk_61 (dk_at dksX14_size_0 3 rfl rfl)
theorem dX14_size_4 : decode cX14_size 4 = .ok (.iload_n 2, 1) := dk_28 (dk_at dksX14_size_0 4 rfl rfl)
theorem dX14_size_5 : decode cX14_size 5 = .ok (.ifCond .le 16, 3) := dk_158 0 16 (dk_at dksX14_size_0 5 rfl rfl)
theorem dX14_size_8 : decode cX14_size 8 = .ok (.iload_n 1, 1) := dk_27 (dk_at dksX14_size_0 8 rfl rfl)
theorem dX14_size_9 : decode cX14_size 9 = .ok (.iload_n 2, 1) := dk_28 (dk_at dksX14_size_0 9 rfl rfl)
theorem dX14_size_10 : decode cX14_size 10 = .ok (.iconst 1, 1) := dk_4 (dk_at dksX14_size_0 10 rfl rfl)
theorem dX14_size_11 : decode cX14_size 11 = .ok (.iand, 1) := dk_126 (dk_at dksX14_size_0 11 rfl rfl)
theorem dX14_size_12 : decode cX14_size 12 = .ok (.iadd, 1) := dk_96 (dk_at dksX14_size_0 12 rfl rfl)
theorem dX14_size_13 : decode cX14_size 13 = .ok (.istore_n 1, 1) := dk_60 (dk_at dksX14_size_0 13 rfl rfl)
theorem dX14_size_14 : decode cX14_size 14 = .ok (.iload_n 2, 1) := dk_28 (dk_at dksX14_size_0 14 rfl rfl)
theorem dX14_size_15 : decode cX14_size 15 = .ok (.iconst 1, 1) := dk_4 (dk_at dksX14_size_0 15 rfl rfl)
theorem dX14_size_16 : decode cX14_size 16 = .ok (.ishr, 1) := dk_122 (dk_at dksX14_size_0 16 rfl rfl)
theorem dX14_size_17 : decode cX14_size 17 = .ok (.istore_n 2, 1) := dk_61 (dk_at dksX14_size_0 17 rfl rfl)
theorem dX14_size_18 : decode cX14_size 18 = .ok (.goto (-14), 3) := dk_167 255 242 (dk_at dksX14_size_0 18 rfl rfl)
theorem dX14_size_21 : decode cX14_size 21 = .ok (.iload_n 1, 1) := dk_27 (dk_at dksX14_size_0 21 rfl rfl)
theorem dX14_size_22 : decode cX14_size 22 = .ok (.ireturn, 1) := dk_172 (dk_at dksX14_size_0 22 rfl rfl)
theorem q136 : (Jvm.Cond.initialized "PrinterClaims$Counting") ∈ lw_all := lw_g (lw_at lw_m1 38 rfl) rfl
theorem q548 : (Jvm.Cond.fieldLinkNest "PrinterClaims$Counting" (15 : Nat) "PrinterClaims$State" "offices" "Ljava/util/List;" "PrinterClaims") ∈ lw_tbl := lw_at lw_m2 210 rfl
theorem q648 : (Jvm.Cond.selects "PrinterClaims$Counting" ({ cls := "java/lang/Object", name := "getClass", desc := "()Ljava/lang/Class;" } : Jvm.MethodName) ({ cls := "java/lang/Object", name := "getClass", desc := "()Ljava/lang/Class;" } : Jvm.MethodName)) ∈ lw_all := lw_g (lw_at lw_m3 70 rfl) rfl
theorem q904 : (Jvm.Cond.instantiable "PrinterClaims$Counting" (2 : Nat)) ∈ lw_all := lw_g (lw_at lw_m4 86 rfl) rfl
theorem q906 : (Jvm.Cond.instanceMethod ({ cls := "PrinterClaims$Counting", name := "<init>", desc := "(LPrinterClaims$State;)V" } : Jvm.MethodName)) ∈ lw_all := lw_g (lw_at lw_m4 88 rfl) rfl
theorem q907 : (Jvm.Cond.code ({ cls := "PrinterClaims$Counting", name := "<init>", desc := "(LPrinterClaims$State;)V" } : Jvm.MethodName) prog_2_method_1_code (4 : Nat) (Option.none : Option Jvm.ClassFile.FieldType)) ∈ lw_all := lw_g (lw_at lw_m4 89 rfl) rfl
theorem q908 : (Jvm.Cond.methodLink "PrinterClaims$Counting" (3 : Nat) ({ cls := "java/lang/Object", name := "<init>", desc := "()V" } : Jvm.MethodName)) ∈ lw_all := lw_g (lw_at lw_m4 90 rfl) rfl
theorem q909 : (Jvm.Cond.interfaceEntry "PrinterClaims$Counting" (21 : Nat)) ∈ lw_tbl := lw_at lw_m4 91 rfl
theorem q910 : (Jvm.Cond.methodLink "PrinterClaims$Counting" (21 : Nat) ({ cls := "java/util/List", name := "size", desc := "()I" } : Jvm.MethodName)) ∈ lw_all := lw_g (lw_at lw_m4 92 rfl) rfl
theorem q911 : (Jvm.Cond.methodLink "PrinterClaims$Counting" (31 : Nat) ({ cls := "PrinterClaims$Counting", name := "goOn", desc := "(I)V" } : Jvm.MethodName)) ∈ lw_all := lw_g (lw_at lw_m4 93 rfl) rfl
theorem q912 : (Jvm.Cond.privateMethod ({ cls := "PrinterClaims$Counting", name := "goOn", desc := "(I)V" } : Jvm.MethodName)) ∈ lw_tbl := lw_at lw_m4 94 rfl
theorem q913 : (Jvm.Cond.instanceMethod ({ cls := "PrinterClaims$Counting", name := "goOn", desc := "(I)V" } : Jvm.MethodName)) ∈ lw_all := lw_g (lw_at lw_m4 95 rfl) rfl
theorem q914 : (Jvm.Cond.code ({ cls := "PrinterClaims$Counting", name := "goOn", desc := "(I)V" } : Jvm.MethodName) prog_2_method_3_code (5 : Nat) (Option.none : Option Jvm.ClassFile.FieldType)) ∈ lw_all := lw_g (lw_at lw_m4 96 rfl) rfl
theorem q915 : (Jvm.Cond.methodLink "PrinterClaims$Counting" (49 : Nat) ({ cls := "PrinterClaims$Counting", name := "there", desc := "(I)[I" } : Jvm.MethodName)) ∈ lw_all := lw_g (lw_at lw_m4 97 rfl) rfl
theorem q916 : (Jvm.Cond.privateMethod ({ cls := "PrinterClaims$Counting", name := "there", desc := "(I)[I" } : Jvm.MethodName)) ∈ lw_tbl := lw_at lw_m4 98 rfl
theorem q917 : (Jvm.Cond.instanceMethod ({ cls := "PrinterClaims$Counting", name := "there", desc := "(I)[I" } : Jvm.MethodName)) ∈ lw_all := lw_g (lw_at lw_m4 99 rfl) rfl
theorem q918 : (Jvm.Cond.code ({ cls := "PrinterClaims$Counting", name := "there", desc := "(I)[I" } : Jvm.MethodName) prog_2_method_2_code (4 : Nat) (Option.some (Jvm.ClassFile.FieldType.array Jvm.ClassFile.FieldType.int))) ∈ lw_all := lw_g (lw_at lw_m4 100 rfl) rfl
theorem q919 : (Jvm.Cond.methodLink "PrinterClaims$Counting" (35 : Nat) ({ cls := "PrinterClaims$State", name := "available", desc := "()[I" } : Jvm.MethodName)) ∈ lw_all := lw_g (lw_at lw_m4 101 rfl) rfl
theorem q920 : (Jvm.Cond.methodLink "PrinterClaims$Counting" (39 : Nat) ({ cls := "PrinterClaims$State", name := "get", desc := "(I)LPrinterClaims$Office;" } : Jvm.MethodName)) ∈ lw_all := lw_g (lw_at lw_m4 102 rfl) rfl
theorem q921 : (Jvm.Cond.methodLink "PrinterClaims$Counting" (43 : Nat) ({ cls := "PrinterClaims$Office", name := "giveTo", desc := "([I)V" } : Jvm.MethodName)) ∈ lw_all := lw_g (lw_at lw_m4 103 rfl) rfl
theorem q925 : (Jvm.Cond.methodLink "PrinterClaims$Counting" (53 : Nat) ({ cls := "PrinterClaims$Office", name := "fits", desc := "([I)Z" } : Jvm.MethodName)) ∈ lw_all := lw_g (lw_at lw_m4 107 rfl) rfl
theorem q926 : (Jvm.Cond.fieldLink "PrinterClaims$Counting" (9 : Nat) "PrinterClaims$Counting" "state" "LPrinterClaims$State;") ∈ lw_all := lw_g (lw_at lw_m4 108 rfl) rfl
theorem q927 : (Jvm.Cond.fieldLink "PrinterClaims$Counting" (27 : Nat) "PrinterClaims$Counting" "ways" "[I") ∈ lw_all := lw_g (lw_at lw_m4 109 rfl) rfl
theorem q928 : (Jvm.Cond.laysFinal "PrinterClaims$Counting" "PrinterClaims$Counting" "state" "LPrinterClaims$State;") ∈ lw_all := lw_g (lw_at lw_m4 110 rfl) rfl
theorem q929 : (Jvm.Cond.soleField "PrinterClaims$Counting" "state") ∈ lw_all := lw_g (lw_at lw_m4 111 rfl) rfl
theorem q930 : (Jvm.Cond.laysFinal "PrinterClaims$Counting" "PrinterClaims$Counting" "ways" "[I") ∈ lw_all := lw_g (lw_at lw_m4 112 rfl) rfl
theorem q931 : (Jvm.Cond.soleField "PrinterClaims$Counting" "ways") ∈ lw_all := lw_g (lw_at lw_m4 113 rfl) rfl
theorem q932 : (Jvm.Cond.superclass "PrinterClaims$Counting" "java/lang/Object") ∈ lw_all := lw_g (lw_at lw_m4 114 rfl) rfl
theorem q934 : (Jvm.Cond.instanceMethod ({ cls := "PrinterClaims$Counting", name := "all", desc := "()I" } : Jvm.MethodName)) ∈ lw_all := lw_g (lw_at lw_m4 116 rfl) rfl
theorem q935 : (Jvm.Cond.selects "PrinterClaims$Counting" ({ cls := "PrinterClaims$Counting", name := "all", desc := "()I" } : Jvm.MethodName) ({ cls := "PrinterClaims$Counting", name := "all", desc := "()I" } : Jvm.MethodName)) ∈ lw_all := lw_g (lw_at lw_m4 117 rfl) rfl
theorem q936 : (Jvm.Cond.code ({ cls := "PrinterClaims$Counting", name := "all", desc := "()I" } : Jvm.MethodName) prog_2_method_4_code (1 : Nat) (Option.some Jvm.ClassFile.FieldType.int)) ∈ lw_all := lw_g (lw_at lw_m4 118 rfl) rfl
theorem q1551 : (Jvm.Cond.instanceMethod ({ cls := "PrinterClaims$Counting", name := "earliest", desc := "(I)I" } : Jvm.MethodName)) ∈ lw_all := lw_g (lw_at lw_m7 13 rfl) rfl
theorem q1552 : (Jvm.Cond.selects "PrinterClaims$Counting" ({ cls := "PrinterClaims$Counting", name := "earliest", desc := "(I)I" } : Jvm.MethodName) ({ cls := "PrinterClaims$Counting", name := "earliest", desc := "(I)I" } : Jvm.MethodName)) ∈ lw_all := lw_g (lw_at lw_m7 14 rfl) rfl
theorem q1553 : (Jvm.Cond.code ({ cls := "PrinterClaims$Counting", name := "earliest", desc := "(I)I" } : Jvm.MethodName) prog_2_method_6_code (5 : Nat) (Option.some Jvm.ClassFile.FieldType.int)) ∈ lw_all := lw_g (lw_at lw_m7 15 rfl) rfl
theorem q1554 : (Jvm.Cond.methodLink "PrinterClaims$Counting" (57 : Nat) ({ cls := "PrinterClaims$Counting", name := "size", desc := "(I)I" } : Jvm.MethodName)) ∈ lw_all := lw_g (lw_at lw_m7 16 rfl) rfl
theorem q1555 : (Jvm.Cond.static ({ cls := "PrinterClaims$Counting", name := "size", desc := "(I)I" } : Jvm.MethodName)) ∈ lw_all := lw_g (lw_at lw_m7 17 rfl) rfl
theorem q1556 : (Jvm.Cond.code ({ cls := "PrinterClaims$Counting", name := "size", desc := "(I)I" } : Jvm.MethodName) prog_2_method_5_code (3 : Nat) (Option.some Jvm.ClassFile.FieldType.int)) ∈ lw_all := lw_g (lw_at lw_m7 18 rfl) rfl
theorem q2978 : (Jvm.Cond.castable "PrinterClaims$Counting" "java/lang/Object") ∈ lw_tbl := lw_at lw_m13 0 rfl
theorem in_X14 : ∀ w ∈ wsX140, w ∈ lw_all := lw_in wsX140 [928, 930] (by decide +kernel) (by decide +kernel)

/-! PrinterClaims$Order -/
set_option maxRecDepth 100000
def RX15 : String := "PrinterClaims$Order"
abbrev cX15_requesting : ByteArray := prog_6_method_2_code
def yX15_requesting : MethodName := ⟨RX15, "requesting", "(III)LPrinterClaims$Order;"⟩
def dkwX15_requesting_0 : List UInt8 := [187, 0, 3, 89, 26, 27, 4, 16, 20, 28, 26, 28, 27, 183, 0, 5, 176]
abbrev dktX15_requesting_0 : List UInt8 := dkwX15_requesting_0 ++ []
theorem dksX15_requesting_0 : cX15_requesting.data.toList.drop 0 = dktX15_requesting_0 := by decide +kernel
theorem dX15_requesting_0 : decode cX15_requesting 0 = .ok (.new 3, 3) := dk_187 0 3 (dk_at dksX15_requesting_0 0 rfl rfl)
theorem dX15_requesting_3 : decode cX15_requesting 3 = .ok (.dup, 1) := dk_89 (dk_at dksX15_requesting_0 3 rfl rfl)
theorem dX15_requesting_4 : decode cX15_requesting 4 = .ok (.iload_n 0, 1) := dk_26 (dk_at dksX15_requesting_0 4 rfl rfl)
theorem dX15_requesting_5 : decode cX15_requesting 5 = .ok (.iload_n 1, 1) := dk_27 (dk_at dksX15_requesting_0 5 rfl rfl)
theorem dX15_requesting_6 : decode cX15_requesting 6 = .ok (.iconst 1, 1) := dk_4 (dk_at dksX15_requesting_0 6 rfl rfl)
theorem dX15_requesting_7 : decode cX15_requesting 7 = .ok (.bipush 20, 2) := dk_16 20 (dk_at dksX15_requesting_0 7 rfl rfl)
theorem dX15_requesting_9 : decode cX15_requesting 9 = .ok (.iload_n 2, 1) := dk_28 (dk_at dksX15_requesting_0 9 rfl rfl)
theorem dX15_requesting_10 : decode cX15_requesting 10 = .ok (.iload_n 0, 1) := dk_26 (dk_at dksX15_requesting_0 10 rfl rfl)
theorem dX15_requesting_11 : decode cX15_requesting 11 = .ok (.iload_n 2, 1) := dk_28 (dk_at dksX15_requesting_0 11 rfl rfl)
theorem dX15_requesting_12 : decode cX15_requesting 12 = .ok (.iload_n 1, 1) := dk_27 (dk_at dksX15_requesting_0 12 rfl rfl)
theorem dX15_requesting_13 : decode cX15_requesting 13 = .ok (.invokespecial 5, 3) := dk_183 0 5 (dk_at dksX15_requesting_0 13 rfl rfl)
theorem dX15_requesting_16 : decode cX15_requesting 16 = .ok (.areturn, 1) := dk_176 (dk_at dksX15_requesting_0 16 rfl rfl)
abbrev cX15_releasing : ByteArray := prog_6_method_3_code
def yX15_releasing : MethodName := ⟨RX15, "releasing", "(III)LPrinterClaims$Order;"⟩
def dkwX15_releasing_0 : List UInt8 := [187, 0, 9, 89, 26, 27, 4, 16, 20, 28, 27, 28, 26, 183, 0, 11, 176]
abbrev dktX15_releasing_0 : List UInt8 := dkwX15_releasing_0 ++ []
theorem dksX15_releasing_0 : cX15_releasing.data.toList.drop 0 = dktX15_releasing_0 := by decide +kernel
theorem dX15_releasing_0 : decode cX15_releasing 0 = .ok (.new 9, 3) := dk_187 0 9 (dk_at dksX15_releasing_0 0 rfl rfl)
theorem dX15_releasing_3 : decode cX15_releasing 3 = .ok (.dup, 1) := dk_89 (dk_at dksX15_releasing_0 3 rfl rfl)
theorem dX15_releasing_4 : decode cX15_releasing 4 = .ok (.iload_n 0, 1) := dk_26 (dk_at dksX15_releasing_0 4 rfl rfl)
theorem dX15_releasing_5 : decode cX15_releasing 5 = .ok (.iload_n 1, 1) := dk_27 (dk_at dksX15_releasing_0 5 rfl rfl)
theorem dX15_releasing_6 : decode cX15_releasing 6 = .ok (.iconst 1, 1) := dk_4 (dk_at dksX15_releasing_0 6 rfl rfl)
theorem dX15_releasing_7 : decode cX15_releasing 7 = .ok (.bipush 20, 2) := dk_16 20 (dk_at dksX15_releasing_0 7 rfl rfl)
theorem dX15_releasing_9 : decode cX15_releasing 9 = .ok (.iload_n 2, 1) := dk_28 (dk_at dksX15_releasing_0 9 rfl rfl)
theorem dX15_releasing_10 : decode cX15_releasing 10 = .ok (.iload_n 1, 1) := dk_27 (dk_at dksX15_releasing_0 10 rfl rfl)
theorem dX15_releasing_11 : decode cX15_releasing 11 = .ok (.iload_n 2, 1) := dk_28 (dk_at dksX15_releasing_0 11 rfl rfl)
theorem dX15_releasing_12 : decode cX15_releasing 12 = .ok (.iload_n 0, 1) := dk_26 (dk_at dksX15_releasing_0 12 rfl rfl)
theorem dX15_releasing_13 : decode cX15_releasing 13 = .ok (.invokespecial 11, 3) := dk_183 0 11 (dk_at dksX15_releasing_0 13 rfl rfl)
theorem dX15_releasing_16 : decode cX15_releasing 16 = .ok (.areturn, 1) := dk_176 (dk_at dksX15_releasing_0 16 rfl rfl)
abbrev cX15_finishing : ByteArray := prog_6_method_5_code
def yX15_finishing : MethodName := ⟨RX15, "finishing", "(I)LPrinterClaims$Order;"⟩
def dkwX15_finishing_0 : List UInt8 := [187, 0, 15, 89, 26, 183, 0, 17, 176]
abbrev dktX15_finishing_0 : List UInt8 := dkwX15_finishing_0 ++ []
theorem dksX15_finishing_0 : cX15_finishing.data.toList.drop 0 = dktX15_finishing_0 := by decide +kernel
theorem dX15_finishing_0 : decode cX15_finishing 0 = .ok (.new 15, 3) := dk_187 0 15 (dk_at dksX15_finishing_0 0 rfl rfl)
theorem dX15_finishing_3 : decode cX15_finishing 3 = .ok (.dup, 1) := dk_89 (dk_at dksX15_finishing_0 3 rfl rfl)
theorem dX15_finishing_4 : decode cX15_finishing 4 = .ok (.iload_n 0, 1) := dk_26 (dk_at dksX15_finishing_0 4 rfl rfl)
theorem dX15_finishing_5 : decode cX15_finishing 5 = .ok (.invokespecial 17, 3) := dk_183 0 17 (dk_at dksX15_finishing_0 5 rfl rfl)
theorem dX15_finishing_8 : decode cX15_finishing 8 = .ok (.areturn, 1) := dk_176 (dk_at dksX15_finishing_0 8 rfl rfl)
abbrev cX15_withdrawing : ByteArray := prog_6_method_6_code
def yX15_withdrawing : MethodName := ⟨RX15, "withdrawing", "(I)LPrinterClaims$Order;"⟩
def dkwX15_withdrawing_0 : List UInt8 := [187, 0, 20, 89, 26, 183, 0, 22, 176]
abbrev dktX15_withdrawing_0 : List UInt8 := dkwX15_withdrawing_0 ++ []
theorem dksX15_withdrawing_0 : cX15_withdrawing.data.toList.drop 0 = dktX15_withdrawing_0 := by decide +kernel
theorem dX15_withdrawing_0 : decode cX15_withdrawing 0 = .ok (.new 20, 3) := dk_187 0 20 (dk_at dksX15_withdrawing_0 0 rfl rfl)
theorem dX15_withdrawing_3 : decode cX15_withdrawing 3 = .ok (.dup, 1) := dk_89 (dk_at dksX15_withdrawing_0 3 rfl rfl)
theorem dX15_withdrawing_4 : decode cX15_withdrawing 4 = .ok (.iload_n 0, 1) := dk_26 (dk_at dksX15_withdrawing_0 4 rfl rfl)
theorem dX15_withdrawing_5 : decode cX15_withdrawing 5 = .ok (.invokespecial 22, 3) := dk_183 0 22 (dk_at dksX15_withdrawing_0 5 rfl rfl)
theorem dX15_withdrawing_8 : decode cX15_withdrawing 8 = .ok (.areturn, 1) := dk_176 (dk_at dksX15_withdrawing_0 8 rfl rfl)
abbrev cX15_claiming : ByteArray := prog_6_method_4_code
def yX15_claiming : MethodName := ⟨RX15, "claiming", "(III)LPrinterClaims$Order;"⟩
def dkwX15_claiming_0 : List UInt8 := [187, 0, 12, 89, 26, 27, 3, 16, 40, 28, 28, 27, 26, 183, 0, 14, 176]
abbrev dktX15_claiming_0 : List UInt8 := dkwX15_claiming_0 ++ []
theorem dksX15_claiming_0 : cX15_claiming.data.toList.drop 0 = dktX15_claiming_0 := by decide +kernel
theorem dX15_claiming_0 : decode cX15_claiming 0 = .ok (.new 12, 3) := dk_187 0 12 (dk_at dksX15_claiming_0 0 rfl rfl)
theorem dX15_claiming_3 : decode cX15_claiming 3 = .ok (.dup, 1) := dk_89 (dk_at dksX15_claiming_0 3 rfl rfl)
theorem dX15_claiming_4 : decode cX15_claiming 4 = .ok (.iload_n 0, 1) := dk_26 (dk_at dksX15_claiming_0 4 rfl rfl)
theorem dX15_claiming_5 : decode cX15_claiming 5 = .ok (.iload_n 1, 1) := dk_27 (dk_at dksX15_claiming_0 5 rfl rfl)
theorem dX15_claiming_6 : decode cX15_claiming 6 = .ok (.iconst 0, 1) := dk_3 (dk_at dksX15_claiming_0 6 rfl rfl)
theorem dX15_claiming_7 : decode cX15_claiming 7 = .ok (.bipush 40, 2) := dk_16 40 (dk_at dksX15_claiming_0 7 rfl rfl)
theorem dX15_claiming_9 : decode cX15_claiming 9 = .ok (.iload_n 2, 1) := dk_28 (dk_at dksX15_claiming_0 9 rfl rfl)
theorem dX15_claiming_10 : decode cX15_claiming 10 = .ok (.iload_n 2, 1) := dk_28 (dk_at dksX15_claiming_0 10 rfl rfl)
theorem dX15_claiming_11 : decode cX15_claiming 11 = .ok (.iload_n 1, 1) := dk_27 (dk_at dksX15_claiming_0 11 rfl rfl)
theorem dX15_claiming_12 : decode cX15_claiming 12 = .ok (.iload_n 0, 1) := dk_26 (dk_at dksX15_claiming_0 12 rfl rfl)
theorem dX15_claiming_13 : decode cX15_claiming 13 = .ok (.invokespecial 14, 3) := dk_183 0 14 (dk_at dksX15_claiming_0 13 rfl rfl)
theorem dX15_claiming_16 : decode cX15_claiming 16 = .ok (.areturn, 1) := dk_176 (dk_at dksX15_claiming_0 16 rfl rfl)
abbrev cX15_adding : ByteArray := prog_6_method_7_code
def yX15_adding : MethodName := ⟨RX15, "adding", "(II)LPrinterClaims$Order;"⟩
def dkwX15_adding_0 : List UInt8 := [187, 0, 23, 89, 26, 27, 27, 26, 183, 0, 25, 176]
abbrev dktX15_adding_0 : List UInt8 := dkwX15_adding_0 ++ []
theorem dksX15_adding_0 : cX15_adding.data.toList.drop 0 = dktX15_adding_0 := by decide +kernel
theorem dX15_adding_0 : decode cX15_adding 0 = .ok (.new 23, 3) := dk_187 0 23 (dk_at dksX15_adding_0 0 rfl rfl)
theorem dX15_adding_3 : decode cX15_adding 3 = .ok (.dup, 1) := dk_89 (dk_at dksX15_adding_0 3 rfl rfl)
theorem dX15_adding_4 : decode cX15_adding 4 = .ok (.iload_n 0, 1) := dk_26 (dk_at dksX15_adding_0 4 rfl rfl)
theorem dX15_adding_5 : decode cX15_adding 5 = .ok (.iload_n 1, 1) := dk_27 (dk_at dksX15_adding_0 5 rfl rfl)
theorem dX15_adding_6 : decode cX15_adding 6 = .ok (.iload_n 1, 1) := dk_27 (dk_at dksX15_adding_0 6 rfl rfl)
theorem dX15_adding_7 : decode cX15_adding 7 = .ok (.iload_n 0, 1) := dk_26 (dk_at dksX15_adding_0 7 rfl rfl)
theorem dX15_adding_8 : decode cX15_adding 8 = .ok (.invokespecial 25, 3) := dk_183 0 25 (dk_at dksX15_adding_0 8 rfl rfl)
theorem dX15_adding_11 : decode cX15_adding 11 = .ok (.areturn, 1) := dk_176 (dk_at dksX15_adding_0 11 rfl rfl)
abbrev cX15_retiring : ByteArray := prog_6_method_8_code
def yX15_retiring : MethodName := ⟨RX15, "retiring", "(II)LPrinterClaims$Order;"⟩
def dkwX15_retiring_0 : List UInt8 := [187, 0, 28, 89, 26, 27, 26, 27, 183, 0, 30, 176]
abbrev dktX15_retiring_0 : List UInt8 := dkwX15_retiring_0 ++ []
theorem dksX15_retiring_0 : cX15_retiring.data.toList.drop 0 = dktX15_retiring_0 := by decide +kernel
theorem dX15_retiring_0 : decode cX15_retiring 0 = .ok (.new 28, 3) := dk_187 0 28 (dk_at dksX15_retiring_0 0 rfl rfl)
theorem dX15_retiring_3 : decode cX15_retiring 3 = .ok (.dup, 1) := dk_89 (dk_at dksX15_retiring_0 3 rfl rfl)
theorem dX15_retiring_4 : decode cX15_retiring 4 = .ok (.iload_n 0, 1) := dk_26 (dk_at dksX15_retiring_0 4 rfl rfl)
theorem dX15_retiring_5 : decode cX15_retiring 5 = .ok (.iload_n 1, 1) := dk_27 (dk_at dksX15_retiring_0 5 rfl rfl)
theorem dX15_retiring_6 : decode cX15_retiring 6 = .ok (.iload_n 0, 1) := dk_26 (dk_at dksX15_retiring_0 6 rfl rfl)
theorem dX15_retiring_7 : decode cX15_retiring 7 = .ok (.iload_n 1, 1) := dk_27 (dk_at dksX15_retiring_0 7 rfl rfl)
theorem dX15_retiring_8 : decode cX15_retiring 8 = .ok (.invokespecial 30, 3) := dk_183 0 30 (dk_at dksX15_retiring_0 8 rfl rfl)
theorem dX15_retiring_11 : decode cX15_retiring 11 = .ok (.areturn, 1) := dk_176 (dk_at dksX15_retiring_0 11 rfl rfl)
theorem q137 : (Jvm.Cond.initialized "PrinterClaims$Order") ∈ lw_all := lw_g (lw_at lw_m1 39 rfl) rfl
theorem q1670 : (Jvm.Cond.static ({ cls := "PrinterClaims$Order", name := "requesting", desc := "(III)LPrinterClaims$Order;" } : Jvm.MethodName)) ∈ lw_all := lw_g (lw_at lw_m7 132 rfl) rfl
theorem q1671 : (Jvm.Cond.code ({ cls := "PrinterClaims$Order", name := "requesting", desc := "(III)LPrinterClaims$Order;" } : Jvm.MethodName) prog_6_method_2_code (3 : Nat) (Option.some (Jvm.ClassFile.FieldType.object "PrinterClaims$Order"))) ∈ lw_all := lw_g (lw_at lw_m7 133 rfl) rfl
theorem q1672 : (Jvm.Cond.classLink "PrinterClaims$Order" (3 : Nat) "PrinterClaims$Order$1") ∈ lw_all := lw_g (lw_at lw_m7 134 rfl) rfl
theorem q1674 : (Jvm.Cond.methodLink "PrinterClaims$Order" (5 : Nat) ({ cls := "PrinterClaims$Order$1", name := "<init>", desc := "(IIIIIIII)V" } : Jvm.MethodName)) ∈ lw_all := lw_g (lw_at lw_m7 136 rfl) rfl
theorem q1713 : (Jvm.Cond.interfaceMethod "PrinterClaims$Order" "PrinterClaims$Order" "run" "(LPrinterClaims$State;)I") ∈ lw_tbl := lw_at lw_m7 175 rfl
theorem q1714 : (Jvm.Cond.declares ({ cls := "PrinterClaims$Order", name := "run", desc := "(LPrinterClaims$State;)I" } : Jvm.MethodName)) ∈ lw_tbl := lw_at lw_m7 176 rfl
theorem q1953 : (Jvm.Cond.static ({ cls := "PrinterClaims$Order", name := "releasing", desc := "(III)LPrinterClaims$Order;" } : Jvm.MethodName)) ∈ lw_all := lw_g (lw_at lw_m8 175 rfl) rfl
theorem q1954 : (Jvm.Cond.code ({ cls := "PrinterClaims$Order", name := "releasing", desc := "(III)LPrinterClaims$Order;" } : Jvm.MethodName) prog_6_method_3_code (3 : Nat) (Option.some (Jvm.ClassFile.FieldType.object "PrinterClaims$Order"))) ∈ lw_all := lw_g (lw_at lw_m8 176 rfl) rfl
theorem q1955 : (Jvm.Cond.classLink "PrinterClaims$Order" (9 : Nat) "PrinterClaims$Order$2") ∈ lw_all := lw_g (lw_at lw_m8 177 rfl) rfl
theorem q1957 : (Jvm.Cond.methodLink "PrinterClaims$Order" (11 : Nat) ({ cls := "PrinterClaims$Order$2", name := "<init>", desc := "(IIIIIIII)V" } : Jvm.MethodName)) ∈ lw_all := lw_g (lw_at lw_m8 179 rfl) rfl
theorem q1984 : (Jvm.Cond.static ({ cls := "PrinterClaims$Order", name := "finishing", desc := "(I)LPrinterClaims$Order;" } : Jvm.MethodName)) ∈ lw_all := lw_g (lw_at lw_m8 206 rfl) rfl
theorem q1985 : (Jvm.Cond.code ({ cls := "PrinterClaims$Order", name := "finishing", desc := "(I)LPrinterClaims$Order;" } : Jvm.MethodName) prog_6_method_5_code (1 : Nat) (Option.some (Jvm.ClassFile.FieldType.object "PrinterClaims$Order"))) ∈ lw_all := lw_g (lw_at lw_m8 207 rfl) rfl
theorem q1986 : (Jvm.Cond.classLink "PrinterClaims$Order" (15 : Nat) "PrinterClaims$Order$4") ∈ lw_all := lw_g (lw_at lw_m8 208 rfl) rfl
theorem q1988 : (Jvm.Cond.methodLink "PrinterClaims$Order" (17 : Nat) ({ cls := "PrinterClaims$Order$4", name := "<init>", desc := "(I)V" } : Jvm.MethodName)) ∈ lw_all := lw_g (lw_at lw_m8 210 rfl) rfl
theorem q2004 : (Jvm.Cond.static ({ cls := "PrinterClaims$Order", name := "withdrawing", desc := "(I)LPrinterClaims$Order;" } : Jvm.MethodName)) ∈ lw_all := lw_g (lw_at lw_m8 226 rfl) rfl
theorem q2005 : (Jvm.Cond.code ({ cls := "PrinterClaims$Order", name := "withdrawing", desc := "(I)LPrinterClaims$Order;" } : Jvm.MethodName) prog_6_method_6_code (1 : Nat) (Option.some (Jvm.ClassFile.FieldType.object "PrinterClaims$Order"))) ∈ lw_all := lw_g (lw_at lw_m8 227 rfl) rfl
theorem q2006 : (Jvm.Cond.classLink "PrinterClaims$Order" (20 : Nat) "PrinterClaims$Order$5") ∈ lw_all := lw_g (lw_at lw_m8 228 rfl) rfl
theorem q2008 : (Jvm.Cond.methodLink "PrinterClaims$Order" (22 : Nat) ({ cls := "PrinterClaims$Order$5", name := "<init>", desc := "(I)V" } : Jvm.MethodName)) ∈ lw_all := lw_g (lw_at lw_m8 230 rfl) rfl
theorem q2024 : (Jvm.Cond.static ({ cls := "PrinterClaims$Order", name := "claiming", desc := "(III)LPrinterClaims$Order;" } : Jvm.MethodName)) ∈ lw_all := lw_g (lw_at lw_m9 6 rfl) rfl
theorem q2025 : (Jvm.Cond.code ({ cls := "PrinterClaims$Order", name := "claiming", desc := "(III)LPrinterClaims$Order;" } : Jvm.MethodName) prog_6_method_4_code (3 : Nat) (Option.some (Jvm.ClassFile.FieldType.object "PrinterClaims$Order"))) ∈ lw_all := lw_g (lw_at lw_m9 7 rfl) rfl
theorem q2026 : (Jvm.Cond.classLink "PrinterClaims$Order" (12 : Nat) "PrinterClaims$Order$3") ∈ lw_all := lw_g (lw_at lw_m9 8 rfl) rfl
theorem q2028 : (Jvm.Cond.methodLink "PrinterClaims$Order" (14 : Nat) ({ cls := "PrinterClaims$Order$3", name := "<init>", desc := "(IIIIIIII)V" } : Jvm.MethodName)) ∈ lw_all := lw_g (lw_at lw_m9 10 rfl) rfl
theorem q2055 : (Jvm.Cond.static ({ cls := "PrinterClaims$Order", name := "adding", desc := "(II)LPrinterClaims$Order;" } : Jvm.MethodName)) ∈ lw_all := lw_g (lw_at lw_m9 37 rfl) rfl
theorem q2056 : (Jvm.Cond.code ({ cls := "PrinterClaims$Order", name := "adding", desc := "(II)LPrinterClaims$Order;" } : Jvm.MethodName) prog_6_method_7_code (2 : Nat) (Option.some (Jvm.ClassFile.FieldType.object "PrinterClaims$Order"))) ∈ lw_all := lw_g (lw_at lw_m9 38 rfl) rfl
theorem q2057 : (Jvm.Cond.classLink "PrinterClaims$Order" (23 : Nat) "PrinterClaims$Order$6") ∈ lw_all := lw_g (lw_at lw_m9 39 rfl) rfl
theorem q2059 : (Jvm.Cond.methodLink "PrinterClaims$Order" (25 : Nat) ({ cls := "PrinterClaims$Order$6", name := "<init>", desc := "(IIII)V" } : Jvm.MethodName)) ∈ lw_all := lw_g (lw_at lw_m9 41 rfl) rfl
theorem q2087 : (Jvm.Cond.static ({ cls := "PrinterClaims$Order", name := "retiring", desc := "(II)LPrinterClaims$Order;" } : Jvm.MethodName)) ∈ lw_all := lw_g (lw_at lw_m9 69 rfl) rfl
theorem q2088 : (Jvm.Cond.code ({ cls := "PrinterClaims$Order", name := "retiring", desc := "(II)LPrinterClaims$Order;" } : Jvm.MethodName) prog_6_method_8_code (2 : Nat) (Option.some (Jvm.ClassFile.FieldType.object "PrinterClaims$Order"))) ∈ lw_all := lw_g (lw_at lw_m9 70 rfl) rfl
theorem q2089 : (Jvm.Cond.classLink "PrinterClaims$Order" (28 : Nat) "PrinterClaims$Order$7") ∈ lw_all := lw_g (lw_at lw_m9 71 rfl) rfl
theorem q2091 : (Jvm.Cond.methodLink "PrinterClaims$Order" (30 : Nat) ({ cls := "PrinterClaims$Order$7", name := "<init>", desc := "(IIII)V" } : Jvm.MethodName)) ∈ lw_all := lw_g (lw_at lw_m9 73 rfl) rfl

/-! PrinterClaims$PlaceOrder -/
set_option maxRecDepth 100000
def RX16 : String := "PrinterClaims$PlaceOrder"
abbrev cX16_init : ByteArray := prog_14_method_1_code
def yX16_init : MethodName := ⟨RX16, "<init>", "(IIIII)V"⟩
def dkwX16_init_1 : List UInt8 := [181, 0, 19, 42, 21, 5, 181, 0, 22, 177]
abbrev dktX16_init_1 : List UInt8 := dkwX16_init_1 ++ []
def dkwX16_init_0 : List UInt8 := [42, 183, 0, 1, 42, 27, 181, 0, 7, 42, 28, 181, 0, 13, 42, 29, 181, 0, 16, 42, 21, 4]
abbrev dktX16_init_0 : List UInt8 := dkwX16_init_0 ++ dktX16_init_1
theorem dksX16_init_0 : cX16_init.data.toList.drop 0 = dktX16_init_0 := by decide +kernel
theorem dksX16_init_1 : cX16_init.data.toList.drop 22 = dktX16_init_1 := dk_seg dksX16_init_0 22 rfl rfl
theorem dX16_init_0 : decode cX16_init 0 = .ok (.aload_n 0, 1) := dk_42 (dk_at dksX16_init_0 0 rfl rfl)
theorem dX16_init_1 : decode cX16_init 1 = .ok (.invokespecial 1, 3) := dk_183 0 1 (dk_at dksX16_init_0 1 rfl rfl)
theorem dX16_init_4 : decode cX16_init 4 = .ok (.aload_n 0, 1) := dk_42 (dk_at dksX16_init_0 4 rfl rfl)
theorem dX16_init_5 : decode cX16_init 5 = .ok (.iload_n 1, 1) := dk_27 (dk_at dksX16_init_0 5 rfl rfl)
theorem dX16_init_6 : decode cX16_init 6 = .ok (.putfield 7, 3) := dk_181 0 7 (dk_at dksX16_init_0 6 rfl rfl)
theorem dX16_init_9 : decode cX16_init 9 = .ok (.aload_n 0, 1) := dk_42 (dk_at dksX16_init_0 9 rfl rfl)
theorem dX16_init_10 : decode cX16_init 10 = .ok (.iload_n 2, 1) := dk_28 (dk_at dksX16_init_0 10 rfl rfl)
theorem dX16_init_11 : decode cX16_init 11 = .ok (.putfield 13, 3) := dk_181 0 13 (dk_at dksX16_init_0 11 rfl rfl)
theorem dX16_init_14 : decode cX16_init 14 = .ok (.aload_n 0, 1) := dk_42 (dk_at dksX16_init_0 14 rfl rfl)
theorem dX16_init_15 : decode cX16_init 15 = .ok (.iload_n 3, 1) := dk_29 (dk_at dksX16_init_0 15 rfl rfl)
theorem dX16_init_16 : decode cX16_init 16 = .ok (.putfield 16, 3) := dk_181 0 16 (dk_at dksX16_init_0 16 rfl rfl)
theorem dX16_init_19 : decode cX16_init 19 = .ok (.aload_n 0, 1) := dk_42 (dk_at dksX16_init_0 19 rfl rfl)
theorem dX16_init_20 : decode cX16_init 20 = .ok (.iload 4, 2) := dk_21 4 (dk_at dksX16_init_0 20 rfl rfl)
theorem dX16_init_22 : decode cX16_init 22 = .ok (.putfield 19, 3) := dk_181 0 19 (dk_at dksX16_init_1 0 rfl rfl)
theorem dX16_init_25 : decode cX16_init 25 = .ok (.aload_n 0, 1) := dk_42 (dk_at dksX16_init_1 3 rfl rfl)
theorem dX16_init_26 : decode cX16_init 26 = .ok (.iload 5, 2) := dk_21 5 (dk_at dksX16_init_1 4 rfl rfl)
theorem dX16_init_28 : decode cX16_init 28 = .ok (.putfield 22, 3) := dk_181 0 22 (dk_at dksX16_init_1 6 rfl rfl)
theorem dX16_init_31 : decode cX16_init 31 = .ok (.return_, 1) := dk_177 (dk_at dksX16_init_1 9 rfl rfl)
abbrev cX16_run : ByteArray := prog_14_method_2_code
def yX16_run : MethodName := ⟨RX16, "run", "(LPrinterClaims$State;)I"⟩
def dkwX16_run_2 : List UInt8 := [182, 0, 50, 182, 0, 54, 172]
abbrev dktX16_run_2 : List UInt8 := dkwX16_run_2 ++ []
def dkwX16_run_1 : List UInt8 := [180, 0, 16, 42, 180, 0, 19, 184, 0, 43, 178, 0, 47, 184, 0, 37, 42, 43, 43, 42, 180, 0, 7]
abbrev dktX16_run_1 : List UInt8 := dkwX16_run_1 ++ dktX16_run_2
def dkwX16_run_0 : List UInt8 := [43, 42, 180, 0, 7, 42, 180, 0, 13, 182, 0, 25, 178, 0, 31, 184, 0, 37, 42, 180, 0, 22, 42]
abbrev dktX16_run_0 : List UInt8 := dkwX16_run_0 ++ dktX16_run_1
theorem dksX16_run_0 : cX16_run.data.toList.drop 0 = dktX16_run_0 := by decide +kernel
theorem dksX16_run_1 : cX16_run.data.toList.drop 23 = dktX16_run_1 := dk_seg dksX16_run_0 23 rfl rfl
theorem dksX16_run_2 : cX16_run.data.toList.drop 46 = dktX16_run_2 := dk_seg dksX16_run_1 23 rfl rfl
theorem dX16_run_0 : decode cX16_run 0 = .ok (.aload_n 1, 1) := dk_43 (dk_at dksX16_run_0 0 rfl rfl)
theorem dX16_run_1 : decode cX16_run 1 = .ok (.aload_n 0, 1) := dk_42 (dk_at dksX16_run_0 1 rfl rfl)
theorem dX16_run_2 : decode cX16_run 2 = .ok (.getfield 7, 3) := dk_180 0 7 (dk_at dksX16_run_0 2 rfl rfl)
theorem dX16_run_5 : decode cX16_run 5 = .ok (.aload_n 0, 1) := dk_42 (dk_at dksX16_run_0 5 rfl rfl)
theorem dX16_run_6 : decode cX16_run 6 = .ok (.getfield 13, 3) := dk_180 0 13 (dk_at dksX16_run_0 6 rfl rfl)
theorem dX16_run_9 : decode cX16_run 9 = .ok (.invokevirtual 25, 3) := dk_182 0 25 (dk_at dksX16_run_0 9 rfl rfl)
theorem dX16_run_12 : decode cX16_run 12 = .ok (.getstatic 31, 3) := dk_178 0 31 (dk_at dksX16_run_0 12 rfl rfl)
theorem dX16_run_15 : decode cX16_run 15 = .ok (.invokestatic 37, 3) := dk_184 0 37 (dk_at dksX16_run_0 15 rfl rfl)
theorem dX16_run_18 : decode cX16_run 18 = .ok (.aload_n 0, 1) := dk_42 (dk_at dksX16_run_0 18 rfl rfl)
theorem dX16_run_19 : decode cX16_run 19 = .ok (.getfield 22, 3) := dk_180 0 22 (dk_at dksX16_run_0 19 rfl rfl)
theorem dX16_run_22 : decode cX16_run 22 = .ok (.aload_n 0, 1) := dk_42 (dk_at dksX16_run_0 22 rfl rfl)
theorem dX16_run_23 : decode cX16_run 23 = .ok (.getfield 16, 3) := dk_180 0 16 (dk_at dksX16_run_1 0 rfl rfl)
theorem dX16_run_26 : decode cX16_run 26 = .ok (.aload_n 0, 1) := dk_42 (dk_at dksX16_run_1 3 rfl rfl)
theorem dX16_run_27 : decode cX16_run 27 = .ok (.getfield 19, 3) := dk_180 0 19 (dk_at dksX16_run_1 4 rfl rfl)
theorem dX16_run_30 : decode cX16_run 30 = .ok (.invokestatic 43, 3) := dk_184 0 43 (dk_at dksX16_run_1 7 rfl rfl)
theorem dX16_run_33 : decode cX16_run 33 = .ok (.getstatic 47, 3) := dk_178 0 47 (dk_at dksX16_run_1 10 rfl rfl)
theorem dX16_run_36 : decode cX16_run 36 = .ok (.invokestatic 37, 3) := dk_184 0 37 (dk_at dksX16_run_1 13 rfl rfl)
theorem dX16_run_39 : decode cX16_run 39 = .ok (.aload_n 0, 1) := dk_42 (dk_at dksX16_run_1 16 rfl rfl)
theorem dX16_run_40 : decode cX16_run 40 = .ok (.aload_n 1, 1) := dk_43 (dk_at dksX16_run_1 17 rfl rfl)
theorem dX16_run_41 : decode cX16_run 41 = .ok (.aload_n 1, 1) := dk_43 (dk_at dksX16_run_1 18 rfl rfl)
theorem dX16_run_42 : decode cX16_run 42 = .ok (.aload_n 0, 1) := dk_42 (dk_at dksX16_run_1 19 rfl rfl)
theorem dX16_run_43 : decode cX16_run 43 = .ok (.getfield 7, 3) := dk_180 0 7 (dk_at dksX16_run_1 20 rfl rfl)
theorem dX16_run_46 : decode cX16_run 46 = .ok (.invokevirtual 50, 3) := dk_182 0 50 (dk_at dksX16_run_2 0 rfl rfl)
theorem dX16_run_49 : decode cX16_run 49 = .ok (.invokevirtual 54, 3) := dk_182 0 54 (dk_at dksX16_run_2 3 rfl rfl)
theorem dX16_run_52 : decode cX16_run 52 = .ok (.ireturn, 1) := dk_172 (dk_at dksX16_run_2 6 rfl rfl)
theorem q138 : (Jvm.Cond.initialized "PrinterClaims$PlaceOrder") ∈ lw_all := lw_g (lw_at lw_m1 40 rfl) rfl
theorem q1678 : (Jvm.Cond.instanceMethod ({ cls := "PrinterClaims$PlaceOrder", name := "<init>", desc := "(IIIII)V" } : Jvm.MethodName)) ∈ lw_all := lw_g (lw_at lw_m7 140 rfl) rfl
theorem q1679 : (Jvm.Cond.code ({ cls := "PrinterClaims$PlaceOrder", name := "<init>", desc := "(IIIII)V" } : Jvm.MethodName) prog_14_method_1_code (6 : Nat) (Option.none : Option Jvm.ClassFile.FieldType)) ∈ lw_all := lw_g (lw_at lw_m7 141 rfl) rfl
theorem q1680 : (Jvm.Cond.methodLink "PrinterClaims$PlaceOrder" (1 : Nat) ({ cls := "java/lang/Object", name := "<init>", desc := "()V" } : Jvm.MethodName)) ∈ lw_all := lw_g (lw_at lw_m7 142 rfl) rfl
theorem q1684 : (Jvm.Cond.fieldLink "PrinterClaims$PlaceOrder" (7 : Nat) "PrinterClaims$PlaceOrder" "placeOffice" "I") ∈ lw_all := lw_g (lw_at lw_m7 146 rfl) rfl
theorem q1685 : (Jvm.Cond.fieldLink "PrinterClaims$PlaceOrder" (13 : Nat) "PrinterClaims$PlaceOrder" "placeKind" "I") ∈ lw_all := lw_g (lw_at lw_m7 147 rfl) rfl
theorem q1686 : (Jvm.Cond.fieldLink "PrinterClaims$PlaceOrder" (16 : Nat) "PrinterClaims$PlaceOrder" "min" "I") ∈ lw_all := lw_g (lw_at lw_m7 148 rfl) rfl
theorem q1687 : (Jvm.Cond.fieldLink "PrinterClaims$PlaceOrder" (19 : Nat) "PrinterClaims$PlaceOrder" "max" "I") ∈ lw_all := lw_g (lw_at lw_m7 149 rfl) rfl
theorem q1688 : (Jvm.Cond.fieldLink "PrinterClaims$PlaceOrder" (22 : Nat) "PrinterClaims$PlaceOrder" "number" "I") ∈ lw_all := lw_g (lw_at lw_m7 150 rfl) rfl
theorem q1696 : (Jvm.Cond.soleField "PrinterClaims$PlaceOrder" "placeOffice") ∈ lw_all := lw_g (lw_at lw_m7 158 rfl) rfl
theorem q1698 : (Jvm.Cond.soleField "PrinterClaims$PlaceOrder" "placeKind") ∈ lw_all := lw_g (lw_at lw_m7 160 rfl) rfl
theorem q1700 : (Jvm.Cond.soleField "PrinterClaims$PlaceOrder" "min") ∈ lw_all := lw_g (lw_at lw_m7 162 rfl) rfl
theorem q1702 : (Jvm.Cond.soleField "PrinterClaims$PlaceOrder" "max") ∈ lw_all := lw_g (lw_at lw_m7 164 rfl) rfl
theorem q1704 : (Jvm.Cond.soleField "PrinterClaims$PlaceOrder" "number") ∈ lw_all := lw_g (lw_at lw_m7 166 rfl) rfl
theorem q1718 : (Jvm.Cond.instanceMethod ({ cls := "PrinterClaims$PlaceOrder", name := "run", desc := "(LPrinterClaims$State;)I" } : Jvm.MethodName)) ∈ lw_all := lw_g (lw_at lw_m7 180 rfl) rfl
theorem q1719 : (Jvm.Cond.publicMethod ({ cls := "PrinterClaims$PlaceOrder", name := "run", desc := "(LPrinterClaims$State;)I" } : Jvm.MethodName)) ∈ lw_tbl := lw_at lw_m7 181 rfl
theorem q1720 : (Jvm.Cond.code ({ cls := "PrinterClaims$PlaceOrder", name := "run", desc := "(LPrinterClaims$State;)I" } : Jvm.MethodName) prog_14_method_2_code (2 : Nat) (Option.some Jvm.ClassFile.FieldType.int)) ∈ lw_all := lw_g (lw_at lw_m7 182 rfl) rfl
theorem q1721 : (Jvm.Cond.methodLink "PrinterClaims$PlaceOrder" (25 : Nat) ({ cls := "PrinterClaims$State", name := "has", desc := "(II)Z" } : Jvm.MethodName)) ∈ lw_all := lw_g (lw_at lw_m7 183 rfl) rfl
theorem q1727 : (Jvm.Cond.fieldLink "PrinterClaims$PlaceOrder" (31 : Nat) "PrinterClaims$Reason" "MISSING" "LPrinterClaims$Reason;") ∈ lw_all := lw_g (lw_at lw_m7 189 rfl) rfl
theorem q1729 : (Jvm.Cond.methodLinkNest "PrinterClaims$PlaceOrder" (37 : Nat) ({ cls := "PrinterClaims", name := "need", desc := "(ZLPrinterClaims$Reason;)V" } : Jvm.MethodName) "PrinterClaims") ∈ lw_tbl := lw_at lw_m7 191 rfl
theorem q1750 : (Jvm.Cond.methodLinkNest "PrinterClaims$PlaceOrder" (43 : Nat) ({ cls := "PrinterClaims", name := "inRange", desc := "(III)Z" } : Jvm.MethodName) "PrinterClaims") ∈ lw_tbl := lw_at lw_m7 212 rfl
theorem q1751 : (Jvm.Cond.fieldLink "PrinterClaims$PlaceOrder" (47 : Nat) "PrinterClaims$Reason" "ARGUMENT" "LPrinterClaims$Reason;") ∈ lw_all := lw_g (lw_at lw_m7 213 rfl) rfl
theorem q1753 : (Jvm.Cond.methodLink "PrinterClaims$PlaceOrder" (50 : Nat) ({ cls := "PrinterClaims$State", name := "get", desc := "(I)LPrinterClaims$Office;" } : Jvm.MethodName)) ∈ lw_all := lw_g (lw_at lw_m7 215 rfl) rfl
theorem q1754 : (Jvm.Cond.methodLink "PrinterClaims$PlaceOrder" (54 : Nat) ({ cls := "PrinterClaims$PlaceOrder", name := "run", desc := "(LPrinterClaims$State;LPrinterClaims$Office;)I" } : Jvm.MethodName)) ∈ lw_all := lw_g (lw_at lw_m7 216 rfl) rfl
theorem q1755 : (Jvm.Cond.declares ({ cls := "PrinterClaims$PlaceOrder", name := "run", desc := "(LPrinterClaims$State;LPrinterClaims$Office;)I" } : Jvm.MethodName)) ∈ lw_tbl := lw_at lw_m7 217 rfl
theorem q1756 : (Jvm.Cond.sameMethod "PrinterClaims$PlaceOrder" "PrinterClaims$PlaceOrder" "run" "(LPrinterClaims$State;LPrinterClaims$Office;)I") ∈ lw_all := lw_g (lw_at lw_m7 218 rfl) rfl

/-! PrinterClaims$Order$1 -/
set_option maxRecDepth 100000
def RX17 : String := "PrinterClaims$Order$1"
def TX17 : u_T := fun k => match k with
  | 0 => ("PrinterClaims$PlaceOrder", "placeOffice", "I", true)
  | 1 => ("PrinterClaims$PlaceOrder", "placeKind", "I", true)
  | 2 => ("PrinterClaims$PlaceOrder", "min", "I", true)
  | 3 => ("PrinterClaims$PlaceOrder", "max", "I", true)
  | 4 => ("PrinterClaims$PlaceOrder", "number", "I", true)
  | 5 => ("PrinterClaims$Order$1", "val$office", "I", true)
  | 6 => ("PrinterClaims$Order$1", "val$count", "I", true)
  | _ => ("PrinterClaims$Order$1", "val$kind", "I", true)
def tyX17 : Nat → FieldType := fun k => match k with
  | 0 => .int
  | 1 => .int
  | 2 => .int
  | 3 => .int
  | 4 => .int
  | 5 => .int
  | 6 => .int
  | _ => .int
abbrev wsX170 : List Cond := u_ws RX17 TX17 8
theorem nmX17 : ∀ a, a < 8 → ∀ b, b < 8 → a ≠ b → (TX17 a).2.1 ≠ (TX17 b).2.1 := by decide +kernel
theorem tyX17_ok : ∀ k, k < 8 → parseFieldDescriptor (TX17 k).2.2.1 = some (tyX17 k) := by decide +kernel
abbrev cX17_init : ByteArray := prog_7_method_1_code
def yX17_init : MethodName := ⟨RX17, "<init>", "(IIIIIIII)V"⟩
def dkwX17_init_1 : List UInt8 := [21, 5, 183, 0, 13, 177]
abbrev dktX17_init_1 : List UInt8 := dkwX17_init_1 ++ []
def dkwX17_init_0 : List UInt8 := [42, 21, 6, 181, 0, 1, 42, 21, 7, 181, 0, 7, 42, 21, 8, 181, 0, 10, 42, 27, 28, 29, 21, 4]
abbrev dktX17_init_0 : List UInt8 := dkwX17_init_0 ++ dktX17_init_1
theorem dksX17_init_0 : cX17_init.data.toList.drop 0 = dktX17_init_0 := by decide +kernel
theorem dksX17_init_1 : cX17_init.data.toList.drop 24 = dktX17_init_1 := dk_seg dksX17_init_0 24 rfl rfl
theorem dX17_init_0 : decode cX17_init 0 = .ok (.aload_n 0, 1) := dk_42 (dk_at dksX17_init_0 0 rfl rfl)
theorem dX17_init_1 : decode cX17_init 1 = .ok (.iload 6, 2) := dk_21 6 (dk_at dksX17_init_0 1 rfl rfl)
theorem dX17_init_3 : decode cX17_init 3 = .ok (.putfield 1, 3) := dk_181 0 1 (dk_at dksX17_init_0 3 rfl rfl)
theorem dX17_init_6 : decode cX17_init 6 = .ok (.aload_n 0, 1) := dk_42 (dk_at dksX17_init_0 6 rfl rfl)
theorem dX17_init_7 : decode cX17_init 7 = .ok (.iload 7, 2) := dk_21 7 (dk_at dksX17_init_0 7 rfl rfl)
theorem dX17_init_9 : decode cX17_init 9 = .ok (.putfield 7, 3) := dk_181 0 7 (dk_at dksX17_init_0 9 rfl rfl)
theorem dX17_init_12 : decode cX17_init 12 = .ok (.aload_n 0, 1) := dk_42 (dk_at dksX17_init_0 12 rfl rfl)
theorem dX17_init_13 : decode cX17_init 13 = .ok (.iload 8, 2) := dk_21 8 (dk_at dksX17_init_0 13 rfl rfl)
theorem dX17_init_15 : decode cX17_init 15 = .ok (.putfield 10, 3) := dk_181 0 10 (dk_at dksX17_init_0 15 rfl rfl)
theorem dX17_init_18 : decode cX17_init 18 = .ok (.aload_n 0, 1) := dk_42 (dk_at dksX17_init_0 18 rfl rfl)
theorem dX17_init_19 : decode cX17_init 19 = .ok (.iload_n 1, 1) := dk_27 (dk_at dksX17_init_0 19 rfl rfl)
theorem dX17_init_20 : decode cX17_init 20 = .ok (.iload_n 2, 1) := dk_28 (dk_at dksX17_init_0 20 rfl rfl)
theorem dX17_init_21 : decode cX17_init 21 = .ok (.iload_n 3, 1) := dk_29 (dk_at dksX17_init_0 21 rfl rfl)
theorem dX17_init_22 : decode cX17_init 22 = .ok (.iload 4, 2) := dk_21 4 (dk_at dksX17_init_0 22 rfl rfl)
theorem dX17_init_24 : decode cX17_init 24 = .ok (.iload 5, 2) := dk_21 5 (dk_at dksX17_init_1 0 rfl rfl)
theorem dX17_init_26 : decode cX17_init 26 = .ok (.invokespecial 13, 3) := dk_183 0 13 (dk_at dksX17_init_1 2 rfl rfl)
theorem dX17_init_29 : decode cX17_init 29 = .ok (.return_, 1) := dk_177 (dk_at dksX17_init_1 5 rfl rfl)
abbrev cX17_run : ByteArray := prog_7_method_2_code
def yX17_run : MethodName := ⟨RX17, "run", "(LPrinterClaims$State;LPrinterClaims$Office;)I"⟩
def dkwX17_run_4 : List UInt8 := [183, 0, 52, 182, 0, 54, 43, 180, 0, 58, 185, 0, 62, 1, 0, 172]
abbrev dktX17_run_4 : List UInt8 := dkwX17_run_4 ++ []
def dkwX17_run_3 : List UInt8 := [182, 0, 46, 3, 172, 43, 187, 0, 50, 89, 42, 180, 0, 1, 42, 180, 0, 10, 42, 180, 0, 7]
abbrev dktX17_run_3 : List UInt8 := dkwX17_run_3 ++ dktX17_run_4
def dkwX17_run_2 : List UInt8 := [180, 0, 7, 182, 0, 42, 153, 0, 21, 43, 42, 180, 0, 1, 42, 180, 0, 10, 42, 180, 0, 7]
abbrev dktX17_run_2 : List UInt8 := dkwX17_run_2 ++ dktX17_run_3
def dkwX17_run_1 : List UInt8 := [163, 0, 7, 4, 167, 0, 4, 3, 178, 0, 31, 184, 0, 37, 43, 42, 180, 0, 1, 42, 180, 0, 10, 42]
abbrev dktX17_run_1 : List UInt8 := dkwX17_run_1 ++ dktX17_run_2
def dkwX17_run_0 : List UInt8 := [43, 42, 180, 0, 1, 182, 0, 19, 154, 0, 22, 42, 180, 0, 7, 44, 42, 180, 0, 10, 182, 0, 25]
abbrev dktX17_run_0 : List UInt8 := dkwX17_run_0 ++ dktX17_run_1
theorem dksX17_run_0 : cX17_run.data.toList.drop 0 = dktX17_run_0 := by decide +kernel
theorem dksX17_run_1 : cX17_run.data.toList.drop 23 = dktX17_run_1 := dk_seg dksX17_run_0 23 rfl rfl
theorem dksX17_run_2 : cX17_run.data.toList.drop 47 = dktX17_run_2 := dk_seg dksX17_run_1 24 rfl rfl
theorem dksX17_run_3 : cX17_run.data.toList.drop 69 = dktX17_run_3 := dk_seg dksX17_run_2 22 rfl rfl
theorem dksX17_run_4 : cX17_run.data.toList.drop 91 = dktX17_run_4 := dk_seg dksX17_run_3 22 rfl rfl
theorem dX17_run_0 : decode cX17_run 0 = .ok (.aload_n 1, 1) := dk_43 (dk_at dksX17_run_0 0 rfl rfl)
theorem dX17_run_1 : decode cX17_run 1 = .ok (.aload_n 0, 1) := dk_42 (dk_at dksX17_run_0 1 rfl rfl)
theorem dX17_run_2 : decode cX17_run 2 = .ok (.getfield 1, 3) := dk_180 0 1 (dk_at dksX17_run_0 2 rfl rfl)
theorem dX17_run_5 : decode cX17_run 5 = .ok (.invokevirtual 19, 3) := dk_182 0 19 (dk_at dksX17_run_0 5 rfl rfl)
theorem dX17_run_8 : decode cX17_run 8 = .ok (.ifCond .ne 22, 3) := dk_154 0 22 (dk_at dksX17_run_0 8 rfl rfl)
theorem dX17_run_11 : decode cX17_run 11 = .ok (.aload_n 0, 1) := dk_42 (dk_at dksX17_run_0 11 rfl rfl)
theorem dX17_run_12 : decode cX17_run 12 = .ok (.getfield 7, 3) := dk_180 0 7 (dk_at dksX17_run_0 12 rfl rfl)
theorem dX17_run_15 : decode cX17_run 15 = .ok (.aload_n 2, 1) := dk_44 (dk_at dksX17_run_0 15 rfl rfl)
theorem dX17_run_16 : decode cX17_run 16 = .ok (.aload_n 0, 1) := dk_42 (dk_at dksX17_run_0 16 rfl rfl)
theorem dX17_run_17 : decode cX17_run 17 = .ok (.getfield 10, 3) := dk_180 0 10 (dk_at dksX17_run_0 17 rfl rfl)
theorem dX17_run_20 : decode cX17_run 20 = .ok (.invokevirtual 25, 3) := dk_182 0 25 (dk_at dksX17_run_0 20 rfl rfl)
theorem dX17_run_23 : decode cX17_run 23 = .ok (.if_icmp .gt 7, 3) := dk_163 0 7 (dk_at dksX17_run_1 0 rfl rfl)
theorem dX17_run_26 : decode cX17_run 26 = .ok (.iconst 1, 1) := dk_4 (dk_at dksX17_run_1 3 rfl rfl)
theorem dX17_run_27 : decode cX17_run 27 = .ok (.goto 4, 3) := dk_167 0 4 (dk_at dksX17_run_1 4 rfl rfl)
theorem dX17_run_30 : decode cX17_run 30 = .ok (.iconst 0, 1) := dk_3 (dk_at dksX17_run_1 7 rfl rfl)
theorem dX17_run_31 : decode cX17_run 31 = .ok (.getstatic 31, 3) := dk_178 0 31 (dk_at dksX17_run_1 8 rfl rfl)
theorem dX17_run_34 : decode cX17_run 34 = .ok (.invokestatic 37, 3) := dk_184 0 37 (dk_at dksX17_run_1 11 rfl rfl)
theorem dX17_run_37 : decode cX17_run 37 = .ok (.aload_n 1, 1) := dk_43 (dk_at dksX17_run_1 14 rfl rfl)
theorem dX17_run_38 : decode cX17_run 38 = .ok (.aload_n 0, 1) := dk_42 (dk_at dksX17_run_1 15 rfl rfl)
theorem dX17_run_39 : decode cX17_run 39 = .ok (.getfield 1, 3) := dk_180 0 1 (dk_at dksX17_run_1 16 rfl rfl)
theorem dX17_run_42 : decode cX17_run 42 = .ok (.aload_n 0, 1) := dk_42 (dk_at dksX17_run_1 19 rfl rfl)
theorem dX17_run_43 : decode cX17_run 43 = .ok (.getfield 10, 3) := dk_180 0 10 (dk_at dksX17_run_1 20 rfl rfl)
theorem dX17_run_46 : decode cX17_run 46 = .ok (.aload_n 0, 1) := dk_42 (dk_at dksX17_run_1 23 rfl rfl)
theorem dX17_run_47 : decode cX17_run 47 = .ok (.getfield 7, 3) := dk_180 0 7 (dk_at dksX17_run_2 0 rfl rfl)
theorem dX17_run_50 : decode cX17_run 50 = .ok (.invokevirtual 42, 3) := dk_182 0 42 (dk_at dksX17_run_2 3 rfl rfl)
theorem dX17_run_53 : decode cX17_run 53 = .ok (.ifCond .eq 21, 3) := dk_153 0 21 (dk_at dksX17_run_2 6 rfl rfl)
theorem dX17_run_56 : decode cX17_run 56 = .ok (.aload_n 1, 1) := dk_43 (dk_at dksX17_run_2 9 rfl rfl)
theorem dX17_run_57 : decode cX17_run 57 = .ok (.aload_n 0, 1) := dk_42 (dk_at dksX17_run_2 10 rfl rfl)
theorem dX17_run_58 : decode cX17_run 58 = .ok (.getfield 1, 3) := dk_180 0 1 (dk_at dksX17_run_2 11 rfl rfl)
theorem dX17_run_61 : decode cX17_run 61 = .ok (.aload_n 0, 1) := dk_42 (dk_at dksX17_run_2 14 rfl rfl)
theorem dX17_run_62 : decode cX17_run 62 = .ok (.getfield 10, 3) := dk_180 0 10 (dk_at dksX17_run_2 15 rfl rfl)
theorem dX17_run_65 : decode cX17_run 65 = .ok (.aload_n 0, 1) := dk_42 (dk_at dksX17_run_2 18 rfl rfl)
theorem dX17_run_66 : decode cX17_run 66 = .ok (.getfield 7, 3) := dk_180 0 7 (dk_at dksX17_run_2 19 rfl rfl)
theorem dX17_run_69 : decode cX17_run 69 = .ok (.invokevirtual 46, 3) := dk_182 0 46 (dk_at dksX17_run_3 0 rfl rfl)
theorem dX17_run_72 : decode cX17_run 72 = .ok (.iconst 0, 1) := dk_3 (dk_at dksX17_run_3 3 rfl rfl)
theorem dX17_run_73 : decode cX17_run 73 = .ok (.ireturn, 1) := dk_172 (dk_at dksX17_run_3 4 rfl rfl)
theorem dX17_run_74 : decode cX17_run 74 = .ok (.aload_n 1, 1) := dk_43 (dk_at dksX17_run_3 5 rfl rfl)
theorem dX17_run_75 : decode cX17_run 75 = .ok (.new 50, 3) := dk_187 0 50 (dk_at dksX17_run_3 6 rfl rfl)
theorem dX17_run_78 : decode cX17_run 78 = .ok (.dup, 1) := dk_89 (dk_at dksX17_run_3 9 rfl rfl)
theorem dX17_run_79 : decode cX17_run 79 = .ok (.aload_n 0, 1) := dk_42 (dk_at dksX17_run_3 10 rfl rfl)
theorem dX17_run_80 : decode cX17_run 80 = .ok (.getfield 1, 3) := dk_180 0 1 (dk_at dksX17_run_3 11 rfl rfl)
theorem dX17_run_83 : decode cX17_run 83 = .ok (.aload_n 0, 1) := dk_42 (dk_at dksX17_run_3 14 rfl rfl)
theorem dX17_run_84 : decode cX17_run 84 = .ok (.getfield 10, 3) := dk_180 0 10 (dk_at dksX17_run_3 15 rfl rfl)
theorem dX17_run_87 : decode cX17_run 87 = .ok (.aload_n 0, 1) := dk_42 (dk_at dksX17_run_3 18 rfl rfl)
theorem dX17_run_88 : decode cX17_run 88 = .ok (.getfield 7, 3) := dk_180 0 7 (dk_at dksX17_run_3 19 rfl rfl)
theorem dX17_run_91 : decode cX17_run 91 = .ok (.invokespecial 52, 3) := dk_183 0 52 (dk_at dksX17_run_4 0 rfl rfl)
theorem dX17_run_94 : decode cX17_run 94 = .ok (.invokevirtual 54, 3) := dk_182 0 54 (dk_at dksX17_run_4 3 rfl rfl)
theorem dX17_run_97 : decode cX17_run 97 = .ok (.aload_n 1, 1) := dk_43 (dk_at dksX17_run_4 6 rfl rfl)
theorem dX17_run_98 : decode cX17_run 98 = .ok (.getfield 58, 3) := dk_180 0 58 (dk_at dksX17_run_4 7 rfl rfl)
theorem dX17_run_101 : decode cX17_run 101 = .ok (.invokeinterface 62 1, 5) := by decide +kernel
theorem dX17_run_106 : decode cX17_run 106 = .ok (.ireturn, 1) := dk_172 (dk_at dksX17_run_4 15 rfl rfl)
theorem q139 : (Jvm.Cond.initialized "PrinterClaims$Order$1") ∈ lw_all := lw_g (lw_at lw_m1 41 rfl) rfl
theorem q555 : (Jvm.Cond.fieldLinkNest "PrinterClaims$Order$1" (58 : Nat) "PrinterClaims$State" "wishes" "Ljava/util/List;" "PrinterClaims") ∈ lw_tbl := lw_at lw_m2 217 rfl
theorem q651 : (Jvm.Cond.selects "PrinterClaims$Order$1" ({ cls := "java/lang/Object", name := "getClass", desc := "()Ljava/lang/Class;" } : Jvm.MethodName) ({ cls := "java/lang/Object", name := "getClass", desc := "()Ljava/lang/Class;" } : Jvm.MethodName)) ∈ lw_all := lw_g (lw_at lw_m3 73 rfl) rfl
theorem q1673 : (Jvm.Cond.instantiable "PrinterClaims$Order$1" (8 : Nat)) ∈ lw_all := lw_g (lw_at lw_m7 135 rfl) rfl
theorem q1675 : (Jvm.Cond.instanceMethod ({ cls := "PrinterClaims$Order$1", name := "<init>", desc := "(IIIIIIII)V" } : Jvm.MethodName)) ∈ lw_all := lw_g (lw_at lw_m7 137 rfl) rfl
theorem q1676 : (Jvm.Cond.code ({ cls := "PrinterClaims$Order$1", name := "<init>", desc := "(IIIIIIII)V" } : Jvm.MethodName) prog_7_method_1_code (9 : Nat) (Option.none : Option Jvm.ClassFile.FieldType)) ∈ lw_all := lw_g (lw_at lw_m7 138 rfl) rfl
theorem q1677 : (Jvm.Cond.methodLink "PrinterClaims$Order$1" (13 : Nat) ({ cls := "PrinterClaims$PlaceOrder", name := "<init>", desc := "(IIIII)V" } : Jvm.MethodName)) ∈ lw_all := lw_g (lw_at lw_m7 139 rfl) rfl
theorem q1681 : (Jvm.Cond.fieldLink "PrinterClaims$Order$1" (1 : Nat) "PrinterClaims$Order$1" "val$office" "I") ∈ lw_all := lw_g (lw_at lw_m7 143 rfl) rfl
theorem q1682 : (Jvm.Cond.fieldLink "PrinterClaims$Order$1" (7 : Nat) "PrinterClaims$Order$1" "val$count" "I") ∈ lw_all := lw_g (lw_at lw_m7 144 rfl) rfl
theorem q1683 : (Jvm.Cond.fieldLink "PrinterClaims$Order$1" (10 : Nat) "PrinterClaims$Order$1" "val$kind" "I") ∈ lw_all := lw_g (lw_at lw_m7 145 rfl) rfl
theorem q1689 : (Jvm.Cond.laysFinal "PrinterClaims$Order$1" "PrinterClaims$Order$1" "val$office" "I") ∈ lw_all := lw_g (lw_at lw_m7 151 rfl) rfl
theorem q1690 : (Jvm.Cond.soleField "PrinterClaims$Order$1" "val$office") ∈ lw_all := lw_g (lw_at lw_m7 152 rfl) rfl
theorem q1691 : (Jvm.Cond.laysFinal "PrinterClaims$Order$1" "PrinterClaims$Order$1" "val$count" "I") ∈ lw_all := lw_g (lw_at lw_m7 153 rfl) rfl
theorem q1692 : (Jvm.Cond.soleField "PrinterClaims$Order$1" "val$count") ∈ lw_all := lw_g (lw_at lw_m7 154 rfl) rfl
theorem q1693 : (Jvm.Cond.laysFinal "PrinterClaims$Order$1" "PrinterClaims$Order$1" "val$kind" "I") ∈ lw_all := lw_g (lw_at lw_m7 155 rfl) rfl
theorem q1694 : (Jvm.Cond.soleField "PrinterClaims$Order$1" "val$kind") ∈ lw_all := lw_g (lw_at lw_m7 156 rfl) rfl
theorem q1695 : (Jvm.Cond.laysFinal "PrinterClaims$Order$1" "PrinterClaims$PlaceOrder" "placeOffice" "I") ∈ lw_all := lw_g (lw_at lw_m7 157 rfl) rfl
theorem q1697 : (Jvm.Cond.laysFinal "PrinterClaims$Order$1" "PrinterClaims$PlaceOrder" "placeKind" "I") ∈ lw_all := lw_g (lw_at lw_m7 159 rfl) rfl
theorem q1699 : (Jvm.Cond.laysFinal "PrinterClaims$Order$1" "PrinterClaims$PlaceOrder" "min" "I") ∈ lw_all := lw_g (lw_at lw_m7 161 rfl) rfl
theorem q1701 : (Jvm.Cond.laysFinal "PrinterClaims$Order$1" "PrinterClaims$PlaceOrder" "max" "I") ∈ lw_all := lw_g (lw_at lw_m7 163 rfl) rfl
theorem q1703 : (Jvm.Cond.laysFinal "PrinterClaims$Order$1" "PrinterClaims$PlaceOrder" "number" "I") ∈ lw_all := lw_g (lw_at lw_m7 165 rfl) rfl
theorem q1705 : (Jvm.Cond.superclass "PrinterClaims$Order$1" "PrinterClaims$PlaceOrder") ∈ lw_all := lw_g (lw_at lw_m7 167 rfl) rfl
theorem q1715 : (Jvm.Cond.castable "PrinterClaims$Order$1" "PrinterClaims$Order") ∈ lw_tbl := lw_at lw_m7 177 rfl
theorem q1716 : (Jvm.Cond.selects "PrinterClaims$Order$1" ({ cls := "PrinterClaims$Order", name := "run", desc := "(LPrinterClaims$State;)I" } : Jvm.MethodName) ({ cls := "PrinterClaims$PlaceOrder", name := "run", desc := "(LPrinterClaims$State;)I" } : Jvm.MethodName)) ∈ lw_all := lw_g (lw_at lw_m7 178 rfl) rfl
theorem q1717 : (Jvm.Cond.unhidden "PrinterClaims$Order$1" "run" "(LPrinterClaims$State;)I") ∈ lw_tbl := lw_at lw_m7 179 rfl
theorem q1757 : (Jvm.Cond.selects "PrinterClaims$Order$1" ({ cls := "PrinterClaims$PlaceOrder", name := "run", desc := "(LPrinterClaims$State;LPrinterClaims$Office;)I" } : Jvm.MethodName) ({ cls := "PrinterClaims$Order$1", name := "run", desc := "(LPrinterClaims$State;LPrinterClaims$Office;)I" } : Jvm.MethodName)) ∈ lw_all := lw_g (lw_at lw_m7 219 rfl) rfl
theorem q1758 : (Jvm.Cond.instanceMethod ({ cls := "PrinterClaims$Order$1", name := "run", desc := "(LPrinterClaims$State;LPrinterClaims$Office;)I" } : Jvm.MethodName)) ∈ lw_all := lw_g (lw_at lw_m7 220 rfl) rfl
theorem q1759 : (Jvm.Cond.code ({ cls := "PrinterClaims$Order$1", name := "run", desc := "(LPrinterClaims$State;LPrinterClaims$Office;)I" } : Jvm.MethodName) prog_7_method_2_code (3 : Nat) (Option.some Jvm.ClassFile.FieldType.int)) ∈ lw_all := lw_g (lw_at lw_m7 221 rfl) rfl
theorem q1760 : (Jvm.Cond.methodLink "PrinterClaims$Order$1" (19 : Nat) ({ cls := "PrinterClaims$State", name := "waits", desc := "(I)Z" } : Jvm.MethodName)) ∈ lw_all := lw_g (lw_at lw_m7 222 rfl) rfl
theorem q1761 : (Jvm.Cond.methodLink "PrinterClaims$Order$1" (25 : Nat) ({ cls := "PrinterClaims$Office", name := "need", desc := "(I)I" } : Jvm.MethodName)) ∈ lw_all := lw_g (lw_at lw_m7 223 rfl) rfl
theorem q1762 : (Jvm.Cond.fieldLink "PrinterClaims$Order$1" (31 : Nat) "PrinterClaims$Reason" "STATE" "LPrinterClaims$Reason;") ∈ lw_all := lw_g (lw_at lw_m7 224 rfl) rfl
theorem q1764 : (Jvm.Cond.methodLinkNest "PrinterClaims$Order$1" (37 : Nat) ({ cls := "PrinterClaims", name := "need", desc := "(ZLPrinterClaims$Reason;)V" } : Jvm.MethodName) "PrinterClaims") ∈ lw_tbl := lw_at lw_m7 226 rfl
theorem q1765 : (Jvm.Cond.methodLink "PrinterClaims$Order$1" (42 : Nat) ({ cls := "PrinterClaims$State", name := "canGrant", desc := "(III)Z" } : Jvm.MethodName)) ∈ lw_all := lw_g (lw_at lw_m7 227 rfl) rfl
theorem q1766 : (Jvm.Cond.methodLink "PrinterClaims$Order$1" (46 : Nat) ({ cls := "PrinterClaims$State", name := "grant", desc := "(III)V" } : Jvm.MethodName)) ∈ lw_all := lw_g (lw_at lw_m7 228 rfl) rfl
theorem q1767 : (Jvm.Cond.classLink "PrinterClaims$Order$1" (50 : Nat) "PrinterClaims$Wish") ∈ lw_all := lw_g (lw_at lw_m7 229 rfl) rfl
theorem q1769 : (Jvm.Cond.methodLinkNest "PrinterClaims$Order$1" (52 : Nat) ({ cls := "PrinterClaims$Wish", name := "<init>", desc := "(III)V" } : Jvm.MethodName) "PrinterClaims") ∈ lw_tbl := lw_at lw_m7 231 rfl
theorem q1786 : (Jvm.Cond.methodLink "PrinterClaims$Order$1" (54 : Nat) ({ cls := "PrinterClaims$State", name := "delay", desc := "(LPrinterClaims$Wish;)V" } : Jvm.MethodName)) ∈ lw_all := lw_g (lw_at lw_m8 8 rfl) rfl
theorem q1791 : (Jvm.Cond.interfaceEntry "PrinterClaims$Order$1" (62 : Nat)) ∈ lw_tbl := lw_at lw_m8 13 rfl
theorem q1792 : (Jvm.Cond.methodLink "PrinterClaims$Order$1" (62 : Nat) ({ cls := "java/util/List", name := "size", desc := "()I" } : Jvm.MethodName)) ∈ lw_all := lw_g (lw_at lw_m8 14 rfl) rfl
theorem q2979 : (Jvm.Cond.castable "PrinterClaims$Order$1" "java/lang/Object") ∈ lw_tbl := lw_at lw_m13 1 rfl
theorem in_X17 : ∀ w ∈ wsX170, w ∈ lw_all := lw_in wsX170 [1695, 1697, 1699, 1701, 1703, 1689, 1691, 1693] (by decide +kernel) (by decide +kernel)

/-! PrinterClaims$Refusal -/
set_option maxRecDepth 100000
def RX18 : String := "PrinterClaims$Refusal"
def TX18 : u_T := fun k => match k with
  | 0 => ("java/lang/Throwable", "cause", "Ljava/lang/Throwable;", false)
  | 1 => ("java/lang/Throwable", "stackTrace", "[Ljava/lang/StackTraceElement;", false)
  | 2 => ("java/lang/Throwable", "suppressedExceptions", "Ljava/util/List;", false)
  | 3 => ("java/lang/Throwable", "detailMessage", "Ljava/lang/String;", false)
  | 4 => ("java/lang/Throwable", "backtrace", "Ljava/lang/Object;", false)
  | 5 => ("java/lang/Throwable", "depth", "I", false)
  | _ => ("PrinterClaims$Refusal", "reason", "LPrinterClaims$Reason;", true)
def tyX18 : Nat → FieldType := fun k => match k with
  | 0 => .object "java/lang/Throwable"
  | 1 => .array (.object "java/lang/StackTraceElement")
  | 2 => .object "java/util/List"
  | 3 => .object "java/lang/String"
  | 4 => .object "java/lang/Object"
  | 5 => .int
  | _ => .object "PrinterClaims$Reason"
abbrev wsX180 : List Cond := u_ws RX18 TX18 7
theorem nmX18 : ∀ a, a < 7 → ∀ b, b < 7 → a ≠ b → (TX18 a).2.1 ≠ (TX18 b).2.1 := by decide +kernel
theorem tyX18_ok : ∀ k, k < 7 → parseFieldDescriptor (TX18 k).2.2.1 = some (tyX18 k) := by decide +kernel
abbrev cX18_init : ByteArray := prog_21_method_1_code
def yX18_init : MethodName := ⟨RX18, "<init>", "(LPrinterClaims$Reason;)V"⟩
def dkwX18_init_0 : List UInt8 := [42, 1, 1, 3, 3, 183, 0, 1, 42, 43, 181, 0, 7, 177]
abbrev dktX18_init_0 : List UInt8 := dkwX18_init_0 ++ []
theorem dksX18_init_0 : cX18_init.data.toList.drop 0 = dktX18_init_0 := by decide +kernel
theorem dX18_init_0 : decode cX18_init 0 = .ok (.aload_n 0, 1) := dk_42 (dk_at dksX18_init_0 0 rfl rfl)
theorem dX18_init_1 : decode cX18_init 1 = .ok (.aconst_null, 1) := dk_1 (dk_at dksX18_init_0 1 rfl rfl)
theorem dX18_init_2 : decode cX18_init 2 = .ok (.aconst_null, 1) := dk_1 (dk_at dksX18_init_0 2 rfl rfl)
theorem dX18_init_3 : decode cX18_init 3 = .ok (.iconst 0, 1) := dk_3 (dk_at dksX18_init_0 3 rfl rfl)
theorem dX18_init_4 : decode cX18_init 4 = .ok (.iconst 0, 1) := dk_3 (dk_at dksX18_init_0 4 rfl rfl)
theorem dX18_init_5 : decode cX18_init 5 = .ok (.invokespecial 1, 3) := dk_183 0 1 (dk_at dksX18_init_0 5 rfl rfl)
theorem dX18_init_8 : decode cX18_init 8 = .ok (.aload_n 0, 1) := dk_42 (dk_at dksX18_init_0 8 rfl rfl)
theorem dX18_init_9 : decode cX18_init 9 = .ok (.aload_n 1, 1) := dk_43 (dk_at dksX18_init_0 9 rfl rfl)
theorem dX18_init_10 : decode cX18_init 10 = .ok (.putfield 7, 3) := dk_181 0 7 (dk_at dksX18_init_0 10 rfl rfl)
theorem dX18_init_13 : decode cX18_init 13 = .ok (.return_, 1) := dk_177 (dk_at dksX18_init_0 13 rfl rfl)
theorem q142 : (Jvm.Cond.initialized "PrinterClaims$Refusal") ∈ lw_all := lw_g (lw_at lw_m1 44 rfl) rfl
theorem q239 : (Jvm.Cond.selects "PrinterClaims$Refusal" ({ cls := "java/lang/Throwable", name := "fillInStackTrace", desc := "()Ljava/lang/Throwable;" } : Jvm.MethodName) ({ cls := "java/lang/Throwable", name := "fillInStackTrace", desc := "()Ljava/lang/Throwable;" } : Jvm.MethodName)) ∈ lw_all := lw_g (lw_at lw_m1 141 rfl) rfl
theorem q663 : (Jvm.Cond.selects "PrinterClaims$Refusal" ({ cls := "java/lang/Object", name := "getClass", desc := "()Ljava/lang/Class;" } : Jvm.MethodName) ({ cls := "java/lang/Object", name := "getClass", desc := "()Ljava/lang/Class;" } : Jvm.MethodName)) ∈ lw_all := lw_g (lw_at lw_m3 85 rfl) rfl
theorem q1732 : (Jvm.Cond.instantiable "PrinterClaims$Refusal" (7 : Nat)) ∈ lw_all := lw_g (lw_at lw_m7 194 rfl) rfl
theorem q1733 : (Jvm.Cond.castable "PrinterClaims$Refusal" "PrinterClaims$Refusal") ∈ lw_tbl := lw_at lw_m7 195 rfl
theorem q1734 : (Jvm.Cond.selects "PrinterClaims$Refusal" ({ cls := "java/lang/Throwable", name := "fillInStackTrace", desc := "(I)Ljava/lang/Throwable;" } : Jvm.MethodName) ({ cls := "java/lang/Throwable", name := "fillInStackTrace", desc := "(I)Ljava/lang/Throwable;" } : Jvm.MethodName)) ∈ lw_all := lw_g (lw_at lw_m7 196 rfl) rfl
theorem q1735 : (Jvm.Cond.lays "PrinterClaims$Refusal" "java/lang/Throwable" "cause" "Ljava/lang/Throwable;") ∈ lw_all := lw_g (lw_at lw_m7 197 rfl) rfl
theorem q1736 : (Jvm.Cond.lays "PrinterClaims$Refusal" "java/lang/Throwable" "stackTrace" "[Ljava/lang/StackTraceElement;") ∈ lw_all := lw_g (lw_at lw_m7 198 rfl) rfl
theorem q1737 : (Jvm.Cond.lays "PrinterClaims$Refusal" "java/lang/Throwable" "suppressedExceptions" "Ljava/util/List;") ∈ lw_all := lw_g (lw_at lw_m7 199 rfl) rfl
theorem q1738 : (Jvm.Cond.lays "PrinterClaims$Refusal" "java/lang/Throwable" "detailMessage" "Ljava/lang/String;") ∈ lw_all := lw_g (lw_at lw_m7 200 rfl) rfl
theorem q1739 : (Jvm.Cond.lays "PrinterClaims$Refusal" "java/lang/Throwable" "backtrace" "Ljava/lang/Object;") ∈ lw_all := lw_g (lw_at lw_m7 201 rfl) rfl
theorem q1741 : (Jvm.Cond.instanceMethod ({ cls := "PrinterClaims$Refusal", name := "<init>", desc := "(LPrinterClaims$Reason;)V" } : Jvm.MethodName)) ∈ lw_all := lw_g (lw_at lw_m7 203 rfl) rfl
theorem q1742 : (Jvm.Cond.code ({ cls := "PrinterClaims$Refusal", name := "<init>", desc := "(LPrinterClaims$Reason;)V" } : Jvm.MethodName) prog_21_method_1_code (2 : Nat) (Option.none : Option Jvm.ClassFile.FieldType)) ∈ lw_all := lw_g (lw_at lw_m7 204 rfl) rfl
theorem q1743 : (Jvm.Cond.methodLink "PrinterClaims$Refusal" (1 : Nat) ({ cls := "java/lang/Exception", name := "<init>", desc := "(Ljava/lang/String;Ljava/lang/Throwable;ZZ)V" } : Jvm.MethodName)) ∈ lw_all := lw_g (lw_at lw_m7 205 rfl) rfl
theorem q1744 : (Jvm.Cond.fieldLink "PrinterClaims$Refusal" (7 : Nat) "PrinterClaims$Refusal" "reason" "LPrinterClaims$Reason;") ∈ lw_all := lw_g (lw_at lw_m7 206 rfl) rfl
theorem q1746 : (Jvm.Cond.laysFinal "PrinterClaims$Refusal" "PrinterClaims$Refusal" "reason" "LPrinterClaims$Reason;") ∈ lw_all := lw_g (lw_at lw_m7 208 rfl) rfl
theorem q1747 : (Jvm.Cond.soleField "PrinterClaims$Refusal" "reason") ∈ lw_all := lw_g (lw_at lw_m7 209 rfl) rfl
theorem q1748 : (Jvm.Cond.lays "PrinterClaims$Refusal" "java/lang/Throwable" "depth" "I") ∈ lw_all := lw_g (lw_at lw_m7 210 rfl) rfl
theorem q1749 : (Jvm.Cond.superclass "PrinterClaims$Refusal" "java/lang/Exception") ∈ lw_all := lw_g (lw_at lw_m7 211 rfl) rfl
theorem q2981 : (Jvm.Cond.castable "PrinterClaims$Refusal" "java/lang/Object") ∈ lw_tbl := lw_at lw_m13 3 rfl
theorem in_X18 : ∀ w ∈ wsX180, w ∈ lw_all := lw_in wsX180 [1735, 1736, 1737, 1738, 1739, 1748, 1746] (by decide +kernel) (by decide +kernel)

/-! PrinterClaims$Wish -/
set_option maxRecDepth 100000
def RX19 : String := "PrinterClaims$Wish"
def TX19 : u_T := fun k => match k with
  | 0 => ("PrinterClaims$Wish", "office", "I", true)
  | 1 => ("PrinterClaims$Wish", "kind", "I", true)
  | _ => ("PrinterClaims$Wish", "count", "I", true)
def tyX19 : Nat → FieldType := fun k => match k with
  | 0 => .int
  | 1 => .int
  | _ => .int
abbrev wsX190 : List Cond := u_ws RX19 TX19 3
theorem nmX19 : ∀ a, a < 3 → ∀ b, b < 3 → a ≠ b → (TX19 a).2.1 ≠ (TX19 b).2.1 := by decide +kernel
theorem tyX19_ok : ∀ k, k < 3 → parseFieldDescriptor (TX19 k).2.2.1 = some (tyX19 k) := by decide +kernel
abbrev cX19_office : ByteArray := prog_31_method_5_code
def yX19_office : MethodName := ⟨RX19, "office", "()I"⟩
theorem dX19_office_0 : decode cX19_office 0 = .ok (.aload_n 0, 1) := by decide +kernel
theorem dX19_office_1 : decode cX19_office 1 = .ok (.getfield 7, 3) := by decide +kernel
theorem dX19_office_4 : decode cX19_office 4 = .ok (.ireturn, 1) := by decide +kernel
abbrev cX19_kind : ByteArray := prog_31_method_6_code
def yX19_kind : MethodName := ⟨RX19, "kind", "()I"⟩
theorem dX19_kind_0 : decode cX19_kind 0 = .ok (.aload_n 0, 1) := by decide +kernel
theorem dX19_kind_1 : decode cX19_kind 1 = .ok (.getfield 13, 3) := by decide +kernel
theorem dX19_kind_4 : decode cX19_kind 4 = .ok (.ireturn, 1) := by decide +kernel
abbrev cX19_count : ByteArray := prog_31_method_7_code
def yX19_count : MethodName := ⟨RX19, "count", "()I"⟩
theorem dX19_count_0 : decode cX19_count 0 = .ok (.aload_n 0, 1) := by decide +kernel
theorem dX19_count_1 : decode cX19_count 1 = .ok (.getfield 16, 3) := by decide +kernel
theorem dX19_count_4 : decode cX19_count 4 = .ok (.ireturn, 1) := by decide +kernel
abbrev cX19_init : ByteArray := prog_31_method_1_code
def yX19_init : MethodName := ⟨RX19, "<init>", "(III)V"⟩
def dkwX19_init_0 : List UInt8 := [42, 183, 0, 1, 42, 27, 181, 0, 7, 42, 28, 181, 0, 13, 42, 29, 181, 0, 16, 177]
abbrev dktX19_init_0 : List UInt8 := dkwX19_init_0 ++ []
theorem dksX19_init_0 : cX19_init.data.toList.drop 0 = dktX19_init_0 := by decide +kernel
theorem dX19_init_0 : decode cX19_init 0 = .ok (.aload_n 0, 1) := dk_42 (dk_at dksX19_init_0 0 rfl rfl)
theorem dX19_init_1 : decode cX19_init 1 = .ok (.invokespecial 1, 3) := dk_183 0 1 (dk_at dksX19_init_0 1 rfl rfl)
theorem dX19_init_4 : decode cX19_init 4 = .ok (.aload_n 0, 1) := dk_42 (dk_at dksX19_init_0 4 rfl rfl)
theorem dX19_init_5 : decode cX19_init 5 = .ok (.iload_n 1, 1) := dk_27 (dk_at dksX19_init_0 5 rfl rfl)
theorem dX19_init_6 : decode cX19_init 6 = .ok (.putfield 7, 3) := dk_181 0 7 (dk_at dksX19_init_0 6 rfl rfl)
theorem dX19_init_9 : decode cX19_init 9 = .ok (.aload_n 0, 1) := dk_42 (dk_at dksX19_init_0 9 rfl rfl)
theorem dX19_init_10 : decode cX19_init 10 = .ok (.iload_n 2, 1) := dk_28 (dk_at dksX19_init_0 10 rfl rfl)
theorem dX19_init_11 : decode cX19_init 11 = .ok (.putfield 13, 3) := dk_181 0 13 (dk_at dksX19_init_0 11 rfl rfl)
theorem dX19_init_14 : decode cX19_init 14 = .ok (.aload_n 0, 1) := dk_42 (dk_at dksX19_init_0 14 rfl rfl)
theorem dX19_init_15 : decode cX19_init 15 = .ok (.iload_n 3, 1) := dk_29 (dk_at dksX19_init_0 15 rfl rfl)
theorem dX19_init_16 : decode cX19_init 16 = .ok (.putfield 16, 3) := dk_181 0 16 (dk_at dksX19_init_0 16 rfl rfl)
theorem dX19_init_19 : decode cX19_init 19 = .ok (.return_, 1) := dk_177 (dk_at dksX19_init_0 19 rfl rfl)
theorem q144 : (Jvm.Cond.initialized "PrinterClaims$Wish") ∈ lw_all := lw_g (lw_at lw_m1 46 rfl) rfl
theorem q671 : (Jvm.Cond.selects "PrinterClaims$Wish" ({ cls := "java/lang/Object", name := "getClass", desc := "()Ljava/lang/Class;" } : Jvm.MethodName) ({ cls := "java/lang/Object", name := "getClass", desc := "()Ljava/lang/Class;" } : Jvm.MethodName)) ∈ lw_all := lw_g (lw_at lw_m3 93 rfl) rfl
theorem q896 : (Jvm.Cond.instanceMethod ({ cls := "PrinterClaims$Wish", name := "office", desc := "()I" } : Jvm.MethodName)) ∈ lw_all := lw_g (lw_at lw_m4 78 rfl) rfl
theorem q897 : (Jvm.Cond.selects "PrinterClaims$Wish" ({ cls := "PrinterClaims$Wish", name := "office", desc := "()I" } : Jvm.MethodName) ({ cls := "PrinterClaims$Wish", name := "office", desc := "()I" } : Jvm.MethodName)) ∈ lw_all := lw_g (lw_at lw_m4 79 rfl) rfl
theorem q898 : (Jvm.Cond.code ({ cls := "PrinterClaims$Wish", name := "office", desc := "()I" } : Jvm.MethodName) prog_31_method_5_code (1 : Nat) (Option.some Jvm.ClassFile.FieldType.int)) ∈ lw_all := lw_g (lw_at lw_m4 80 rfl) rfl
theorem q1495 : (Jvm.Cond.instanceMethod ({ cls := "PrinterClaims$Wish", name := "kind", desc := "()I" } : Jvm.MethodName)) ∈ lw_all := lw_g (lw_at lw_m6 197 rfl) rfl
theorem q1496 : (Jvm.Cond.selects "PrinterClaims$Wish" ({ cls := "PrinterClaims$Wish", name := "kind", desc := "()I" } : Jvm.MethodName) ({ cls := "PrinterClaims$Wish", name := "kind", desc := "()I" } : Jvm.MethodName)) ∈ lw_all := lw_g (lw_at lw_m6 198 rfl) rfl
theorem q1497 : (Jvm.Cond.code ({ cls := "PrinterClaims$Wish", name := "kind", desc := "()I" } : Jvm.MethodName) prog_31_method_6_code (1 : Nat) (Option.some Jvm.ClassFile.FieldType.int)) ∈ lw_all := lw_g (lw_at lw_m6 199 rfl) rfl
theorem q1506 : (Jvm.Cond.instanceMethod ({ cls := "PrinterClaims$Wish", name := "count", desc := "()I" } : Jvm.MethodName)) ∈ lw_all := lw_g (lw_at lw_m6 208 rfl) rfl
theorem q1507 : (Jvm.Cond.selects "PrinterClaims$Wish" ({ cls := "PrinterClaims$Wish", name := "count", desc := "()I" } : Jvm.MethodName) ({ cls := "PrinterClaims$Wish", name := "count", desc := "()I" } : Jvm.MethodName)) ∈ lw_all := lw_g (lw_at lw_m6 209 rfl) rfl
theorem q1508 : (Jvm.Cond.code ({ cls := "PrinterClaims$Wish", name := "count", desc := "()I" } : Jvm.MethodName) prog_31_method_7_code (1 : Nat) (Option.some Jvm.ClassFile.FieldType.int)) ∈ lw_all := lw_g (lw_at lw_m6 210 rfl) rfl
theorem q1768 : (Jvm.Cond.instantiable "PrinterClaims$Wish" (3 : Nat)) ∈ lw_all := lw_g (lw_at lw_m7 230 rfl) rfl
theorem q1770 : (Jvm.Cond.instanceMethod ({ cls := "PrinterClaims$Wish", name := "<init>", desc := "(III)V" } : Jvm.MethodName)) ∈ lw_all := lw_g (lw_at lw_m7 232 rfl) rfl
theorem q1771 : (Jvm.Cond.code ({ cls := "PrinterClaims$Wish", name := "<init>", desc := "(III)V" } : Jvm.MethodName) prog_31_method_1_code (4 : Nat) (Option.none : Option Jvm.ClassFile.FieldType)) ∈ lw_all := lw_g (lw_at lw_m7 233 rfl) rfl
theorem q1772 : (Jvm.Cond.methodLink "PrinterClaims$Wish" (1 : Nat) ({ cls := "java/lang/Record", name := "<init>", desc := "()V" } : Jvm.MethodName)) ∈ lw_all := lw_g (lw_at lw_m7 234 rfl) rfl
theorem q1776 : (Jvm.Cond.fieldLink "PrinterClaims$Wish" (7 : Nat) "PrinterClaims$Wish" "office" "I") ∈ lw_all := lw_g (lw_at lw_m7 238 rfl) rfl
theorem q1777 : (Jvm.Cond.fieldLink "PrinterClaims$Wish" (13 : Nat) "PrinterClaims$Wish" "kind" "I") ∈ lw_all := lw_g (lw_at lw_m7 239 rfl) rfl
theorem q1778 : (Jvm.Cond.fieldLink "PrinterClaims$Wish" (16 : Nat) "PrinterClaims$Wish" "count" "I") ∈ lw_all := lw_g (lw_at lw_m8 0 rfl) rfl
theorem q1779 : (Jvm.Cond.laysFinal "PrinterClaims$Wish" "PrinterClaims$Wish" "office" "I") ∈ lw_all := lw_g (lw_at lw_m8 1 rfl) rfl
theorem q1780 : (Jvm.Cond.soleField "PrinterClaims$Wish" "office") ∈ lw_all := lw_g (lw_at lw_m8 2 rfl) rfl
theorem q1781 : (Jvm.Cond.laysFinal "PrinterClaims$Wish" "PrinterClaims$Wish" "kind" "I") ∈ lw_all := lw_g (lw_at lw_m8 3 rfl) rfl
theorem q1782 : (Jvm.Cond.soleField "PrinterClaims$Wish" "kind") ∈ lw_all := lw_g (lw_at lw_m8 4 rfl) rfl
theorem q1783 : (Jvm.Cond.laysFinal "PrinterClaims$Wish" "PrinterClaims$Wish" "count" "I") ∈ lw_all := lw_g (lw_at lw_m8 5 rfl) rfl
theorem q1784 : (Jvm.Cond.soleField "PrinterClaims$Wish" "count") ∈ lw_all := lw_g (lw_at lw_m8 6 rfl) rfl
theorem q1785 : (Jvm.Cond.superclass "PrinterClaims$Wish" "java/lang/Record") ∈ lw_all := lw_g (lw_at lw_m8 7 rfl) rfl
theorem q2984 : (Jvm.Cond.castable "PrinterClaims$Wish" "java/lang/Object") ∈ lw_tbl := lw_at lw_m13 6 rfl
theorem in_X19 : ∀ w ∈ wsX190, w ∈ lw_all := lw_in wsX190 [1779, 1781, 1783] (by decide +kernel) (by decide +kernel)

/-! PrinterClaims$Order$2 -/
set_option maxRecDepth 100000
def RX20 : String := "PrinterClaims$Order$2"
def TX20 : u_T := fun k => match k with
  | 0 => ("PrinterClaims$PlaceOrder", "placeOffice", "I", true)
  | 1 => ("PrinterClaims$PlaceOrder", "placeKind", "I", true)
  | 2 => ("PrinterClaims$PlaceOrder", "min", "I", true)
  | 3 => ("PrinterClaims$PlaceOrder", "max", "I", true)
  | 4 => ("PrinterClaims$PlaceOrder", "number", "I", true)
  | 5 => ("PrinterClaims$Order$2", "val$kind", "I", true)
  | 6 => ("PrinterClaims$Order$2", "val$count", "I", true)
  | _ => ("PrinterClaims$Order$2", "val$office", "I", true)
def tyX20 : Nat → FieldType := fun k => match k with
  | 0 => .int
  | 1 => .int
  | 2 => .int
  | 3 => .int
  | 4 => .int
  | 5 => .int
  | 6 => .int
  | _ => .int
abbrev wsX200 : List Cond := u_ws RX20 TX20 8
theorem nmX20 : ∀ a, a < 8 → ∀ b, b < 8 → a ≠ b → (TX20 a).2.1 ≠ (TX20 b).2.1 := by decide +kernel
theorem tyX20_ok : ∀ k, k < 8 → parseFieldDescriptor (TX20 k).2.2.1 = some (tyX20 k) := by decide +kernel
abbrev cX20_run : ByteArray := prog_8_method_2_code
def yX20_run : MethodName := ⟨RX20, "run", "(LPrinterClaims$State;LPrinterClaims$Office;)I"⟩
def dkwX20_run_1 : List UInt8 := [184, 0, 31, 43, 42, 180, 0, 10, 42, 180, 0, 1, 42, 180, 0, 7, 182, 0, 37, 43, 182, 0, 43, 172]
abbrev dktX20_run_1 : List UInt8 := dkwX20_run_1 ++ []
def dkwX20_run_0 : List UInt8 := [44, 180, 0, 19, 42, 180, 0, 1, 46, 42, 180, 0, 7, 161, 0, 7, 4, 167, 0, 4, 3, 178, 0, 25]
abbrev dktX20_run_0 : List UInt8 := dkwX20_run_0 ++ dktX20_run_1
theorem dksX20_run_0 : cX20_run.data.toList.drop 0 = dktX20_run_0 := by decide +kernel
theorem dksX20_run_1 : cX20_run.data.toList.drop 24 = dktX20_run_1 := dk_seg dksX20_run_0 24 rfl rfl
theorem dX20_run_0 : decode cX20_run 0 = .ok (.aload_n 2, 1) := dk_44 (dk_at dksX20_run_0 0 rfl rfl)
theorem dX20_run_1 : decode cX20_run 1 = .ok (.getfield 19, 3) := dk_180 0 19 (dk_at dksX20_run_0 1 rfl rfl)
theorem dX20_run_4 : decode cX20_run 4 = .ok (.aload_n 0, 1) := dk_42 (dk_at dksX20_run_0 4 rfl rfl)
theorem dX20_run_5 : decode cX20_run 5 = .ok (.getfield 1, 3) := dk_180 0 1 (dk_at dksX20_run_0 5 rfl rfl)
theorem dX20_run_8 : decode cX20_run 8 = .ok (.iaload, 1) := dk_46 (dk_at dksX20_run_0 8 rfl rfl)
theorem dX20_run_9 : decode cX20_run 9 = .ok (.aload_n 0, 1) := dk_42 (dk_at dksX20_run_0 9 rfl rfl)
theorem dX20_run_10 : decode cX20_run 10 = .ok (.getfield 7, 3) := dk_180 0 7 (dk_at dksX20_run_0 10 rfl rfl)
theorem dX20_run_13 : decode cX20_run 13 = .ok (.if_icmp .lt 7, 3) := dk_161 0 7 (dk_at dksX20_run_0 13 rfl rfl)
theorem dX20_run_16 : decode cX20_run 16 = .ok (.iconst 1, 1) := dk_4 (dk_at dksX20_run_0 16 rfl rfl)
theorem dX20_run_17 : decode cX20_run 17 = .ok (.goto 4, 3) := dk_167 0 4 (dk_at dksX20_run_0 17 rfl rfl)
theorem dX20_run_20 : decode cX20_run 20 = .ok (.iconst 0, 1) := dk_3 (dk_at dksX20_run_0 20 rfl rfl)
theorem dX20_run_21 : decode cX20_run 21 = .ok (.getstatic 25, 3) := dk_178 0 25 (dk_at dksX20_run_0 21 rfl rfl)
theorem dX20_run_24 : decode cX20_run 24 = .ok (.invokestatic 31, 3) := dk_184 0 31 (dk_at dksX20_run_1 0 rfl rfl)
theorem dX20_run_27 : decode cX20_run 27 = .ok (.aload_n 1, 1) := dk_43 (dk_at dksX20_run_1 3 rfl rfl)
theorem dX20_run_28 : decode cX20_run 28 = .ok (.aload_n 0, 1) := dk_42 (dk_at dksX20_run_1 4 rfl rfl)
theorem dX20_run_29 : decode cX20_run 29 = .ok (.getfield 10, 3) := dk_180 0 10 (dk_at dksX20_run_1 5 rfl rfl)
theorem dX20_run_32 : decode cX20_run 32 = .ok (.aload_n 0, 1) := dk_42 (dk_at dksX20_run_1 8 rfl rfl)
theorem dX20_run_33 : decode cX20_run 33 = .ok (.getfield 1, 3) := dk_180 0 1 (dk_at dksX20_run_1 9 rfl rfl)
theorem dX20_run_36 : decode cX20_run 36 = .ok (.aload_n 0, 1) := dk_42 (dk_at dksX20_run_1 12 rfl rfl)
theorem dX20_run_37 : decode cX20_run 37 = .ok (.getfield 7, 3) := dk_180 0 7 (dk_at dksX20_run_1 13 rfl rfl)
theorem dX20_run_40 : decode cX20_run 40 = .ok (.invokevirtual 37, 3) := dk_182 0 37 (dk_at dksX20_run_1 16 rfl rfl)
theorem dX20_run_43 : decode cX20_run 43 = .ok (.aload_n 1, 1) := dk_43 (dk_at dksX20_run_1 19 rfl rfl)
theorem dX20_run_44 : decode cX20_run 44 = .ok (.invokevirtual 43, 3) := dk_182 0 43 (dk_at dksX20_run_1 20 rfl rfl)
theorem dX20_run_47 : decode cX20_run 47 = .ok (.ireturn, 1) := dk_172 (dk_at dksX20_run_1 23 rfl rfl)
abbrev cX20_init : ByteArray := prog_8_method_1_code
def yX20_init : MethodName := ⟨RX20, "<init>", "(IIIIIIII)V"⟩
def dkwX20_init_1 : List UInt8 := [21, 5, 183, 0, 13, 177]
abbrev dktX20_init_1 : List UInt8 := dkwX20_init_1 ++ []
def dkwX20_init_0 : List UInt8 := [42, 21, 6, 181, 0, 1, 42, 21, 7, 181, 0, 7, 42, 21, 8, 181, 0, 10, 42, 27, 28, 29, 21, 4]
abbrev dktX20_init_0 : List UInt8 := dkwX20_init_0 ++ dktX20_init_1
theorem dksX20_init_0 : cX20_init.data.toList.drop 0 = dktX20_init_0 := by decide +kernel
theorem dksX20_init_1 : cX20_init.data.toList.drop 24 = dktX20_init_1 := dk_seg dksX20_init_0 24 rfl rfl
theorem dX20_init_0 : decode cX20_init 0 = .ok (.aload_n 0, 1) := dk_42 (dk_at dksX20_init_0 0 rfl rfl)
theorem dX20_init_1 : decode cX20_init 1 = .ok (.iload 6, 2) := dk_21 6 (dk_at dksX20_init_0 1 rfl rfl)
theorem dX20_init_3 : decode cX20_init 3 = .ok (.putfield 1, 3) := dk_181 0 1 (dk_at dksX20_init_0 3 rfl rfl)
theorem dX20_init_6 : decode cX20_init 6 = .ok (.aload_n 0, 1) := dk_42 (dk_at dksX20_init_0 6 rfl rfl)
theorem dX20_init_7 : decode cX20_init 7 = .ok (.iload 7, 2) := dk_21 7 (dk_at dksX20_init_0 7 rfl rfl)
theorem dX20_init_9 : decode cX20_init 9 = .ok (.putfield 7, 3) := dk_181 0 7 (dk_at dksX20_init_0 9 rfl rfl)
theorem dX20_init_12 : decode cX20_init 12 = .ok (.aload_n 0, 1) := dk_42 (dk_at dksX20_init_0 12 rfl rfl)
theorem dX20_init_13 : decode cX20_init 13 = .ok (.iload 8, 2) := dk_21 8 (dk_at dksX20_init_0 13 rfl rfl)
theorem dX20_init_15 : decode cX20_init 15 = .ok (.putfield 10, 3) := dk_181 0 10 (dk_at dksX20_init_0 15 rfl rfl)
theorem dX20_init_18 : decode cX20_init 18 = .ok (.aload_n 0, 1) := dk_42 (dk_at dksX20_init_0 18 rfl rfl)
theorem dX20_init_19 : decode cX20_init 19 = .ok (.iload_n 1, 1) := dk_27 (dk_at dksX20_init_0 19 rfl rfl)
theorem dX20_init_20 : decode cX20_init 20 = .ok (.iload_n 2, 1) := dk_28 (dk_at dksX20_init_0 20 rfl rfl)
theorem dX20_init_21 : decode cX20_init 21 = .ok (.iload_n 3, 1) := dk_29 (dk_at dksX20_init_0 21 rfl rfl)
theorem dX20_init_22 : decode cX20_init 22 = .ok (.iload 4, 2) := dk_21 4 (dk_at dksX20_init_0 22 rfl rfl)
theorem dX20_init_24 : decode cX20_init 24 = .ok (.iload 5, 2) := dk_21 5 (dk_at dksX20_init_1 0 rfl rfl)
theorem dX20_init_26 : decode cX20_init 26 = .ok (.invokespecial 13, 3) := dk_183 0 13 (dk_at dksX20_init_1 2 rfl rfl)
theorem dX20_init_29 : decode cX20_init 29 = .ok (.return_, 1) := dk_177 (dk_at dksX20_init_1 5 rfl rfl)
theorem q146 : (Jvm.Cond.initialized "PrinterClaims$Order$2") ∈ lw_all := lw_g (lw_at lw_m1 48 rfl) rfl
theorem q603 : (Jvm.Cond.fieldLinkNest "PrinterClaims$Order$2" (19 : Nat) "PrinterClaims$Office" "allocations" "[I" "PrinterClaims") ∈ lw_tbl := lw_at lw_m3 25 rfl
theorem q652 : (Jvm.Cond.selects "PrinterClaims$Order$2" ({ cls := "java/lang/Object", name := "getClass", desc := "()Ljava/lang/Class;" } : Jvm.MethodName) ({ cls := "java/lang/Object", name := "getClass", desc := "()Ljava/lang/Class;" } : Jvm.MethodName)) ∈ lw_all := lw_g (lw_at lw_m3 74 rfl) rfl
theorem q1793 : (Jvm.Cond.selects "PrinterClaims$Order$2" ({ cls := "PrinterClaims$PlaceOrder", name := "run", desc := "(LPrinterClaims$State;LPrinterClaims$Office;)I" } : Jvm.MethodName) ({ cls := "PrinterClaims$Order$2", name := "run", desc := "(LPrinterClaims$State;LPrinterClaims$Office;)I" } : Jvm.MethodName)) ∈ lw_all := lw_g (lw_at lw_m8 15 rfl) rfl
theorem q1794 : (Jvm.Cond.instanceMethod ({ cls := "PrinterClaims$Order$2", name := "run", desc := "(LPrinterClaims$State;LPrinterClaims$Office;)I" } : Jvm.MethodName)) ∈ lw_all := lw_g (lw_at lw_m8 16 rfl) rfl
theorem q1795 : (Jvm.Cond.code ({ cls := "PrinterClaims$Order$2", name := "run", desc := "(LPrinterClaims$State;LPrinterClaims$Office;)I" } : Jvm.MethodName) prog_8_method_2_code (3 : Nat) (Option.some Jvm.ClassFile.FieldType.int)) ∈ lw_all := lw_g (lw_at lw_m8 17 rfl) rfl
theorem q1796 : (Jvm.Cond.fieldLink "PrinterClaims$Order$2" (25 : Nat) "PrinterClaims$Reason" "STATE" "LPrinterClaims$Reason;") ∈ lw_all := lw_g (lw_at lw_m8 18 rfl) rfl
theorem q1797 : (Jvm.Cond.methodLinkNest "PrinterClaims$Order$2" (31 : Nat) ({ cls := "PrinterClaims", name := "need", desc := "(ZLPrinterClaims$Reason;)V" } : Jvm.MethodName) "PrinterClaims") ∈ lw_tbl := lw_at lw_m8 19 rfl
theorem q1798 : (Jvm.Cond.methodLink "PrinterClaims$Order$2" (37 : Nat) ({ cls := "PrinterClaims$State", name := "giveBack", desc := "(III)V" } : Jvm.MethodName)) ∈ lw_all := lw_g (lw_at lw_m8 20 rfl) rfl
theorem q1799 : (Jvm.Cond.methodLink "PrinterClaims$Order$2" (43 : Nat) ({ cls := "PrinterClaims$State", name := "serve", desc := "()I" } : Jvm.MethodName)) ∈ lw_all := lw_g (lw_at lw_m8 21 rfl) rfl
theorem q1814 : (Jvm.Cond.castable "PrinterClaims$Order$2" "PrinterClaims$Order") ∈ lw_tbl := lw_at lw_m8 36 rfl
theorem q1815 : (Jvm.Cond.selects "PrinterClaims$Order$2" ({ cls := "PrinterClaims$Order", name := "run", desc := "(LPrinterClaims$State;)I" } : Jvm.MethodName) ({ cls := "PrinterClaims$PlaceOrder", name := "run", desc := "(LPrinterClaims$State;)I" } : Jvm.MethodName)) ∈ lw_all := lw_g (lw_at lw_m8 37 rfl) rfl
theorem q1816 : (Jvm.Cond.unhidden "PrinterClaims$Order$2" "run" "(LPrinterClaims$State;)I") ∈ lw_tbl := lw_at lw_m8 38 rfl
theorem q1956 : (Jvm.Cond.instantiable "PrinterClaims$Order$2" (8 : Nat)) ∈ lw_all := lw_g (lw_at lw_m8 178 rfl) rfl
theorem q1958 : (Jvm.Cond.instanceMethod ({ cls := "PrinterClaims$Order$2", name := "<init>", desc := "(IIIIIIII)V" } : Jvm.MethodName)) ∈ lw_all := lw_g (lw_at lw_m8 180 rfl) rfl
theorem q1959 : (Jvm.Cond.code ({ cls := "PrinterClaims$Order$2", name := "<init>", desc := "(IIIIIIII)V" } : Jvm.MethodName) prog_8_method_1_code (9 : Nat) (Option.none : Option Jvm.ClassFile.FieldType)) ∈ lw_all := lw_g (lw_at lw_m8 181 rfl) rfl
theorem q1960 : (Jvm.Cond.methodLink "PrinterClaims$Order$2" (13 : Nat) ({ cls := "PrinterClaims$PlaceOrder", name := "<init>", desc := "(IIIII)V" } : Jvm.MethodName)) ∈ lw_all := lw_g (lw_at lw_m8 182 rfl) rfl
theorem q1961 : (Jvm.Cond.fieldLink "PrinterClaims$Order$2" (1 : Nat) "PrinterClaims$Order$2" "val$kind" "I") ∈ lw_all := lw_g (lw_at lw_m8 183 rfl) rfl
theorem q1962 : (Jvm.Cond.fieldLink "PrinterClaims$Order$2" (7 : Nat) "PrinterClaims$Order$2" "val$count" "I") ∈ lw_all := lw_g (lw_at lw_m8 184 rfl) rfl
theorem q1963 : (Jvm.Cond.fieldLink "PrinterClaims$Order$2" (10 : Nat) "PrinterClaims$Order$2" "val$office" "I") ∈ lw_all := lw_g (lw_at lw_m8 185 rfl) rfl
theorem q1964 : (Jvm.Cond.laysFinal "PrinterClaims$Order$2" "PrinterClaims$Order$2" "val$kind" "I") ∈ lw_all := lw_g (lw_at lw_m8 186 rfl) rfl
theorem q1965 : (Jvm.Cond.soleField "PrinterClaims$Order$2" "val$kind") ∈ lw_all := lw_g (lw_at lw_m8 187 rfl) rfl
theorem q1966 : (Jvm.Cond.laysFinal "PrinterClaims$Order$2" "PrinterClaims$Order$2" "val$count" "I") ∈ lw_all := lw_g (lw_at lw_m8 188 rfl) rfl
theorem q1967 : (Jvm.Cond.soleField "PrinterClaims$Order$2" "val$count") ∈ lw_all := lw_g (lw_at lw_m8 189 rfl) rfl
theorem q1968 : (Jvm.Cond.laysFinal "PrinterClaims$Order$2" "PrinterClaims$Order$2" "val$office" "I") ∈ lw_all := lw_g (lw_at lw_m8 190 rfl) rfl
theorem q1969 : (Jvm.Cond.soleField "PrinterClaims$Order$2" "val$office") ∈ lw_all := lw_g (lw_at lw_m8 191 rfl) rfl
theorem q1970 : (Jvm.Cond.laysFinal "PrinterClaims$Order$2" "PrinterClaims$PlaceOrder" "placeOffice" "I") ∈ lw_all := lw_g (lw_at lw_m8 192 rfl) rfl
theorem q1971 : (Jvm.Cond.laysFinal "PrinterClaims$Order$2" "PrinterClaims$PlaceOrder" "placeKind" "I") ∈ lw_all := lw_g (lw_at lw_m8 193 rfl) rfl
theorem q1972 : (Jvm.Cond.laysFinal "PrinterClaims$Order$2" "PrinterClaims$PlaceOrder" "min" "I") ∈ lw_all := lw_g (lw_at lw_m8 194 rfl) rfl
theorem q1973 : (Jvm.Cond.laysFinal "PrinterClaims$Order$2" "PrinterClaims$PlaceOrder" "max" "I") ∈ lw_all := lw_g (lw_at lw_m8 195 rfl) rfl
theorem q1974 : (Jvm.Cond.laysFinal "PrinterClaims$Order$2" "PrinterClaims$PlaceOrder" "number" "I") ∈ lw_all := lw_g (lw_at lw_m8 196 rfl) rfl
theorem q1975 : (Jvm.Cond.superclass "PrinterClaims$Order$2" "PrinterClaims$PlaceOrder") ∈ lw_all := lw_g (lw_at lw_m8 197 rfl) rfl
theorem q2986 : (Jvm.Cond.castable "PrinterClaims$Order$2" "java/lang/Object") ∈ lw_tbl := lw_at lw_m13 8 rfl
theorem in_X20 : ∀ w ∈ wsX200, w ∈ lw_all := lw_in wsX200 [1970, 1971, 1972, 1973, 1974, 1964, 1966, 1968] (by decide +kernel) (by decide +kernel)

/-! PrinterClaims$Order$4 -/
set_option maxRecDepth 100000
def RX21 : String := "PrinterClaims$Order$4"
def TX21 : u_T := fun k => match k with
  | _ => ("PrinterClaims$Order$4", "val$office", "I", true)
def tyX21 : Nat → FieldType := fun k => match k with
  | _ => .int
abbrev wsX210 : List Cond := u_ws RX21 TX21 1
theorem nmX21 : ∀ a, a < 1 → ∀ b, b < 1 → a ≠ b → (TX21 a).2.1 ≠ (TX21 b).2.1 := by decide +kernel
theorem tyX21_ok : ∀ k, k < 1 → parseFieldDescriptor (TX21 k).2.2.1 = some (tyX21 k) := by decide +kernel
abbrev cX21_run : ByteArray := prog_10_method_2_code
def yX21_run : MethodName := ⟨RX21, "run", "(LPrinterClaims$State;)I"⟩
def dkwX21_run_0 : List UInt8 := [43, 42, 180, 0, 1, 182, 0, 13, 178, 0, 19, 184, 0, 25, 43, 42, 180, 0, 1, 182, 0, 31, 172]
abbrev dktX21_run_0 : List UInt8 := dkwX21_run_0 ++ []
theorem dksX21_run_0 : cX21_run.data.toList.drop 0 = dktX21_run_0 := by decide +kernel
theorem dX21_run_0 : decode cX21_run 0 = .ok (.aload_n 1, 1) := dk_43 (dk_at dksX21_run_0 0 rfl rfl)
theorem dX21_run_1 : decode cX21_run 1 = .ok (.aload_n 0, 1) := dk_42 (dk_at dksX21_run_0 1 rfl rfl)
theorem dX21_run_2 : decode cX21_run 2 = .ok (.getfield 1, 3) := dk_180 0 1 (dk_at dksX21_run_0 2 rfl rfl)
theorem dX21_run_5 : decode cX21_run 5 = .ok (.invokevirtual 13, 3) := dk_182 0 13 (dk_at dksX21_run_0 5 rfl rfl)
theorem dX21_run_8 : decode cX21_run 8 = .ok (.getstatic 19, 3) := dk_178 0 19 (dk_at dksX21_run_0 8 rfl rfl)
theorem dX21_run_11 : decode cX21_run 11 = .ok (.invokestatic 25, 3) := dk_184 0 25 (dk_at dksX21_run_0 11 rfl rfl)
theorem dX21_run_14 : decode cX21_run 14 = .ok (.aload_n 1, 1) := dk_43 (dk_at dksX21_run_0 14 rfl rfl)
theorem dX21_run_15 : decode cX21_run 15 = .ok (.aload_n 0, 1) := dk_42 (dk_at dksX21_run_0 15 rfl rfl)
theorem dX21_run_16 : decode cX21_run 16 = .ok (.getfield 1, 3) := dk_180 0 1 (dk_at dksX21_run_0 16 rfl rfl)
theorem dX21_run_19 : decode cX21_run 19 = .ok (.invokevirtual 31, 3) := dk_182 0 31 (dk_at dksX21_run_0 19 rfl rfl)
theorem dX21_run_22 : decode cX21_run 22 = .ok (.ireturn, 1) := dk_172 (dk_at dksX21_run_0 22 rfl rfl)
abbrev cX21_init : ByteArray := prog_10_method_1_code
def yX21_init : MethodName := ⟨RX21, "<init>", "(I)V"⟩
def dkwX21_init_0 : List UInt8 := [42, 27, 181, 0, 1, 42, 183, 0, 7, 177]
abbrev dktX21_init_0 : List UInt8 := dkwX21_init_0 ++ []
theorem dksX21_init_0 : cX21_init.data.toList.drop 0 = dktX21_init_0 := by decide +kernel
theorem dX21_init_0 : decode cX21_init 0 = .ok (.aload_n 0, 1) := dk_42 (dk_at dksX21_init_0 0 rfl rfl)
theorem dX21_init_1 : decode cX21_init 1 = .ok (.iload_n 1, 1) := dk_27 (dk_at dksX21_init_0 1 rfl rfl)
theorem dX21_init_2 : decode cX21_init 2 = .ok (.putfield 1, 3) := dk_181 0 1 (dk_at dksX21_init_0 2 rfl rfl)
theorem dX21_init_5 : decode cX21_init 5 = .ok (.aload_n 0, 1) := dk_42 (dk_at dksX21_init_0 5 rfl rfl)
theorem dX21_init_6 : decode cX21_init 6 = .ok (.invokespecial 7, 3) := dk_183 0 7 (dk_at dksX21_init_0 6 rfl rfl)
theorem dX21_init_9 : decode cX21_init 9 = .ok (.return_, 1) := dk_177 (dk_at dksX21_init_0 9 rfl rfl)
theorem q147 : (Jvm.Cond.initialized "PrinterClaims$Order$4") ∈ lw_all := lw_g (lw_at lw_m1 49 rfl) rfl
theorem q654 : (Jvm.Cond.selects "PrinterClaims$Order$4" ({ cls := "java/lang/Object", name := "getClass", desc := "()Ljava/lang/Class;" } : Jvm.MethodName) ({ cls := "java/lang/Object", name := "getClass", desc := "()Ljava/lang/Class;" } : Jvm.MethodName)) ∈ lw_all := lw_g (lw_at lw_m3 76 rfl) rfl
theorem q1820 : (Jvm.Cond.castable "PrinterClaims$Order$4" "PrinterClaims$Order") ∈ lw_tbl := lw_at lw_m8 42 rfl
theorem q1821 : (Jvm.Cond.selects "PrinterClaims$Order$4" ({ cls := "PrinterClaims$Order", name := "run", desc := "(LPrinterClaims$State;)I" } : Jvm.MethodName) ({ cls := "PrinterClaims$Order$4", name := "run", desc := "(LPrinterClaims$State;)I" } : Jvm.MethodName)) ∈ lw_all := lw_g (lw_at lw_m8 43 rfl) rfl
theorem q1822 : (Jvm.Cond.unhidden "PrinterClaims$Order$4" "run" "(LPrinterClaims$State;)I") ∈ lw_tbl := lw_at lw_m8 44 rfl
theorem q1823 : (Jvm.Cond.instanceMethod ({ cls := "PrinterClaims$Order$4", name := "run", desc := "(LPrinterClaims$State;)I" } : Jvm.MethodName)) ∈ lw_all := lw_g (lw_at lw_m8 45 rfl) rfl
theorem q1824 : (Jvm.Cond.publicMethod ({ cls := "PrinterClaims$Order$4", name := "run", desc := "(LPrinterClaims$State;)I" } : Jvm.MethodName)) ∈ lw_tbl := lw_at lw_m8 46 rfl
theorem q1825 : (Jvm.Cond.code ({ cls := "PrinterClaims$Order$4", name := "run", desc := "(LPrinterClaims$State;)I" } : Jvm.MethodName) prog_10_method_2_code (2 : Nat) (Option.some Jvm.ClassFile.FieldType.int)) ∈ lw_all := lw_g (lw_at lw_m8 47 rfl) rfl
theorem q1826 : (Jvm.Cond.methodLink "PrinterClaims$Order$4" (13 : Nat) ({ cls := "PrinterClaims$State", name := "hasOffice", desc := "(I)Z" } : Jvm.MethodName)) ∈ lw_all := lw_g (lw_at lw_m8 48 rfl) rfl
theorem q1827 : (Jvm.Cond.fieldLink "PrinterClaims$Order$4" (19 : Nat) "PrinterClaims$Reason" "MISSING" "LPrinterClaims$Reason;") ∈ lw_all := lw_g (lw_at lw_m8 49 rfl) rfl
theorem q1828 : (Jvm.Cond.methodLinkNest "PrinterClaims$Order$4" (25 : Nat) ({ cls := "PrinterClaims", name := "need", desc := "(ZLPrinterClaims$Reason;)V" } : Jvm.MethodName) "PrinterClaims") ∈ lw_tbl := lw_at lw_m8 50 rfl
theorem q1829 : (Jvm.Cond.methodLink "PrinterClaims$Order$4" (31 : Nat) ({ cls := "PrinterClaims$State", name := "finish", desc := "(I)I" } : Jvm.MethodName)) ∈ lw_all := lw_g (lw_at lw_m8 51 rfl) rfl
theorem q1987 : (Jvm.Cond.instantiable "PrinterClaims$Order$4" (1 : Nat)) ∈ lw_all := lw_g (lw_at lw_m8 209 rfl) rfl
theorem q1989 : (Jvm.Cond.instanceMethod ({ cls := "PrinterClaims$Order$4", name := "<init>", desc := "(I)V" } : Jvm.MethodName)) ∈ lw_all := lw_g (lw_at lw_m8 211 rfl) rfl
theorem q1990 : (Jvm.Cond.code ({ cls := "PrinterClaims$Order$4", name := "<init>", desc := "(I)V" } : Jvm.MethodName) prog_10_method_1_code (2 : Nat) (Option.none : Option Jvm.ClassFile.FieldType)) ∈ lw_all := lw_g (lw_at lw_m8 212 rfl) rfl
theorem q1991 : (Jvm.Cond.methodLink "PrinterClaims$Order$4" (7 : Nat) ({ cls := "java/lang/Object", name := "<init>", desc := "()V" } : Jvm.MethodName)) ∈ lw_all := lw_g (lw_at lw_m8 213 rfl) rfl
theorem q1992 : (Jvm.Cond.fieldLink "PrinterClaims$Order$4" (1 : Nat) "PrinterClaims$Order$4" "val$office" "I") ∈ lw_all := lw_g (lw_at lw_m8 214 rfl) rfl
theorem q1993 : (Jvm.Cond.laysFinal "PrinterClaims$Order$4" "PrinterClaims$Order$4" "val$office" "I") ∈ lw_all := lw_g (lw_at lw_m8 215 rfl) rfl
theorem q1994 : (Jvm.Cond.soleField "PrinterClaims$Order$4" "val$office") ∈ lw_all := lw_g (lw_at lw_m8 216 rfl) rfl
theorem q1995 : (Jvm.Cond.superclass "PrinterClaims$Order$4" "java/lang/Object") ∈ lw_all := lw_g (lw_at lw_m8 217 rfl) rfl
theorem q2987 : (Jvm.Cond.castable "PrinterClaims$Order$4" "java/lang/Object") ∈ lw_tbl := lw_at lw_m13 9 rfl
theorem in_X21 : ∀ w ∈ wsX210, w ∈ lw_all := lw_in wsX210 [1993] (by decide +kernel) (by decide +kernel)

/-! PrinterClaims$Order$5 -/
set_option maxRecDepth 100000
def RX22 : String := "PrinterClaims$Order$5"
def TX22 : u_T := fun k => match k with
  | _ => ("PrinterClaims$Order$5", "val$office", "I", true)
def tyX22 : Nat → FieldType := fun k => match k with
  | _ => .int
abbrev wsX220 : List Cond := u_ws RX22 TX22 1
theorem nmX22 : ∀ a, a < 1 → ∀ b, b < 1 → a ≠ b → (TX22 a).2.1 ≠ (TX22 b).2.1 := by decide +kernel
theorem tyX22_ok : ∀ k, k < 1 → parseFieldDescriptor (TX22 k).2.2.1 = some (tyX22 k) := by decide +kernel
abbrev cX22_run : ByteArray := prog_11_method_2_code
def yX22_run : MethodName := ⟨RX22, "run", "(LPrinterClaims$State;)I"⟩
def dkwX22_run_2 : List UInt8 := [185, 0, 49, 1, 0, 172]
abbrev dktX22_run_2 : List UInt8 := dkwX22_run_2 ++ []
def dkwX22_run_1 : List UInt8 := [178, 0, 34, 184, 0, 25, 43, 42, 180, 0, 1, 182, 0, 37, 43, 182, 0, 41, 61, 43, 180, 0, 45]
abbrev dktX22_run_1 : List UInt8 := dkwX22_run_1 ++ dktX22_run_2
def dkwX22_run_0 : List UInt8 := [43, 42, 180, 0, 1, 182, 0, 13, 178, 0, 19, 184, 0, 25, 43, 42, 180, 0, 1, 182, 0, 31]
abbrev dktX22_run_0 : List UInt8 := dkwX22_run_0 ++ dktX22_run_1
theorem dksX22_run_0 : cX22_run.data.toList.drop 0 = dktX22_run_0 := by decide +kernel
theorem dksX22_run_1 : cX22_run.data.toList.drop 22 = dktX22_run_1 := dk_seg dksX22_run_0 22 rfl rfl
theorem dksX22_run_2 : cX22_run.data.toList.drop 45 = dktX22_run_2 := dk_seg dksX22_run_1 23 rfl rfl
theorem dX22_run_0 : decode cX22_run 0 = .ok (.aload_n 1, 1) := dk_43 (dk_at dksX22_run_0 0 rfl rfl)
theorem dX22_run_1 : decode cX22_run 1 = .ok (.aload_n 0, 1) := dk_42 (dk_at dksX22_run_0 1 rfl rfl)
theorem dX22_run_2 : decode cX22_run 2 = .ok (.getfield 1, 3) := dk_180 0 1 (dk_at dksX22_run_0 2 rfl rfl)
theorem dX22_run_5 : decode cX22_run 5 = .ok (.invokevirtual 13, 3) := dk_182 0 13 (dk_at dksX22_run_0 5 rfl rfl)
theorem dX22_run_8 : decode cX22_run 8 = .ok (.getstatic 19, 3) := dk_178 0 19 (dk_at dksX22_run_0 8 rfl rfl)
theorem dX22_run_11 : decode cX22_run 11 = .ok (.invokestatic 25, 3) := dk_184 0 25 (dk_at dksX22_run_0 11 rfl rfl)
theorem dX22_run_14 : decode cX22_run 14 = .ok (.aload_n 1, 1) := dk_43 (dk_at dksX22_run_0 14 rfl rfl)
theorem dX22_run_15 : decode cX22_run 15 = .ok (.aload_n 0, 1) := dk_42 (dk_at dksX22_run_0 15 rfl rfl)
theorem dX22_run_16 : decode cX22_run 16 = .ok (.getfield 1, 3) := dk_180 0 1 (dk_at dksX22_run_0 16 rfl rfl)
theorem dX22_run_19 : decode cX22_run 19 = .ok (.invokevirtual 31, 3) := dk_182 0 31 (dk_at dksX22_run_0 19 rfl rfl)
theorem dX22_run_22 : decode cX22_run 22 = .ok (.getstatic 34, 3) := dk_178 0 34 (dk_at dksX22_run_1 0 rfl rfl)
theorem dX22_run_25 : decode cX22_run 25 = .ok (.invokestatic 25, 3) := dk_184 0 25 (dk_at dksX22_run_1 3 rfl rfl)
theorem dX22_run_28 : decode cX22_run 28 = .ok (.aload_n 1, 1) := dk_43 (dk_at dksX22_run_1 6 rfl rfl)
theorem dX22_run_29 : decode cX22_run 29 = .ok (.aload_n 0, 1) := dk_42 (dk_at dksX22_run_1 7 rfl rfl)
theorem dX22_run_30 : decode cX22_run 30 = .ok (.getfield 1, 3) := dk_180 0 1 (dk_at dksX22_run_1 8 rfl rfl)
theorem dX22_run_33 : decode cX22_run 33 = .ok (.invokevirtual 37, 3) := dk_182 0 37 (dk_at dksX22_run_1 11 rfl rfl)
theorem dX22_run_36 : decode cX22_run 36 = .ok (.aload_n 1, 1) := dk_43 (dk_at dksX22_run_1 14 rfl rfl)
theorem dX22_run_37 : decode cX22_run 37 = .ok (.invokevirtual 41, 3) := dk_182 0 41 (dk_at dksX22_run_1 15 rfl rfl)
theorem dX22_run_40 : decode cX22_run 40 = .ok (.istore_n 2, 1) := dk_61 (dk_at dksX22_run_1 18 rfl rfl)
theorem dX22_run_41 : decode cX22_run 41 = .ok (.aload_n 1, 1) := dk_43 (dk_at dksX22_run_1 19 rfl rfl)
theorem dX22_run_42 : decode cX22_run 42 = .ok (.getfield 45, 3) := dk_180 0 45 (dk_at dksX22_run_1 20 rfl rfl)
theorem dX22_run_45 : decode cX22_run 45 = .ok (.invokeinterface 49 1, 5) := by decide +kernel
theorem dX22_run_50 : decode cX22_run 50 = .ok (.ireturn, 1) := dk_172 (dk_at dksX22_run_2 5 rfl rfl)
abbrev cX22_init : ByteArray := prog_11_method_1_code
def yX22_init : MethodName := ⟨RX22, "<init>", "(I)V"⟩
def dkwX22_init_0 : List UInt8 := [42, 27, 181, 0, 1, 42, 183, 0, 7, 177]
abbrev dktX22_init_0 : List UInt8 := dkwX22_init_0 ++ []
theorem dksX22_init_0 : cX22_init.data.toList.drop 0 = dktX22_init_0 := by decide +kernel
theorem dX22_init_0 : decode cX22_init 0 = .ok (.aload_n 0, 1) := dk_42 (dk_at dksX22_init_0 0 rfl rfl)
theorem dX22_init_1 : decode cX22_init 1 = .ok (.iload_n 1, 1) := dk_27 (dk_at dksX22_init_0 1 rfl rfl)
theorem dX22_init_2 : decode cX22_init 2 = .ok (.putfield 1, 3) := dk_181 0 1 (dk_at dksX22_init_0 2 rfl rfl)
theorem dX22_init_5 : decode cX22_init 5 = .ok (.aload_n 0, 1) := dk_42 (dk_at dksX22_init_0 5 rfl rfl)
theorem dX22_init_6 : decode cX22_init 6 = .ok (.invokespecial 7, 3) := dk_183 0 7 (dk_at dksX22_init_0 6 rfl rfl)
theorem dX22_init_9 : decode cX22_init 9 = .ok (.return_, 1) := dk_177 (dk_at dksX22_init_0 9 rfl rfl)
theorem q148 : (Jvm.Cond.initialized "PrinterClaims$Order$5") ∈ lw_all := lw_g (lw_at lw_m1 50 rfl) rfl
theorem q554 : (Jvm.Cond.fieldLinkNest "PrinterClaims$Order$5" (45 : Nat) "PrinterClaims$State" "wishes" "Ljava/util/List;" "PrinterClaims") ∈ lw_tbl := lw_at lw_m2 216 rfl
theorem q655 : (Jvm.Cond.selects "PrinterClaims$Order$5" ({ cls := "java/lang/Object", name := "getClass", desc := "()Ljava/lang/Class;" } : Jvm.MethodName) ({ cls := "java/lang/Object", name := "getClass", desc := "()Ljava/lang/Class;" } : Jvm.MethodName)) ∈ lw_all := lw_g (lw_at lw_m3 77 rfl) rfl
theorem q1830 : (Jvm.Cond.castable "PrinterClaims$Order$5" "PrinterClaims$Order") ∈ lw_tbl := lw_at lw_m8 52 rfl
theorem q1831 : (Jvm.Cond.selects "PrinterClaims$Order$5" ({ cls := "PrinterClaims$Order", name := "run", desc := "(LPrinterClaims$State;)I" } : Jvm.MethodName) ({ cls := "PrinterClaims$Order$5", name := "run", desc := "(LPrinterClaims$State;)I" } : Jvm.MethodName)) ∈ lw_all := lw_g (lw_at lw_m8 53 rfl) rfl
theorem q1832 : (Jvm.Cond.unhidden "PrinterClaims$Order$5" "run" "(LPrinterClaims$State;)I") ∈ lw_tbl := lw_at lw_m8 54 rfl
theorem q1833 : (Jvm.Cond.instanceMethod ({ cls := "PrinterClaims$Order$5", name := "run", desc := "(LPrinterClaims$State;)I" } : Jvm.MethodName)) ∈ lw_all := lw_g (lw_at lw_m8 55 rfl) rfl
theorem q1834 : (Jvm.Cond.publicMethod ({ cls := "PrinterClaims$Order$5", name := "run", desc := "(LPrinterClaims$State;)I" } : Jvm.MethodName)) ∈ lw_tbl := lw_at lw_m8 56 rfl
theorem q1835 : (Jvm.Cond.code ({ cls := "PrinterClaims$Order$5", name := "run", desc := "(LPrinterClaims$State;)I" } : Jvm.MethodName) prog_11_method_2_code (3 : Nat) (Option.some Jvm.ClassFile.FieldType.int)) ∈ lw_all := lw_g (lw_at lw_m8 57 rfl) rfl
theorem q1836 : (Jvm.Cond.methodLink "PrinterClaims$Order$5" (13 : Nat) ({ cls := "PrinterClaims$State", name := "hasOffice", desc := "(I)Z" } : Jvm.MethodName)) ∈ lw_all := lw_g (lw_at lw_m8 58 rfl) rfl
theorem q1837 : (Jvm.Cond.fieldLink "PrinterClaims$Order$5" (19 : Nat) "PrinterClaims$Reason" "MISSING" "LPrinterClaims$Reason;") ∈ lw_all := lw_g (lw_at lw_m8 59 rfl) rfl
theorem q1838 : (Jvm.Cond.methodLinkNest "PrinterClaims$Order$5" (25 : Nat) ({ cls := "PrinterClaims", name := "need", desc := "(ZLPrinterClaims$Reason;)V" } : Jvm.MethodName) "PrinterClaims") ∈ lw_tbl := lw_at lw_m8 60 rfl
theorem q1839 : (Jvm.Cond.methodLink "PrinterClaims$Order$5" (31 : Nat) ({ cls := "PrinterClaims$State", name := "waits", desc := "(I)Z" } : Jvm.MethodName)) ∈ lw_all := lw_g (lw_at lw_m8 61 rfl) rfl
theorem q1840 : (Jvm.Cond.fieldLink "PrinterClaims$Order$5" (34 : Nat) "PrinterClaims$Reason" "STATE" "LPrinterClaims$Reason;") ∈ lw_all := lw_g (lw_at lw_m8 62 rfl) rfl
theorem q1841 : (Jvm.Cond.methodLink "PrinterClaims$Order$5" (37 : Nat) ({ cls := "PrinterClaims$State", name := "drop", desc := "(I)V" } : Jvm.MethodName)) ∈ lw_all := lw_g (lw_at lw_m8 63 rfl) rfl
theorem q1842 : (Jvm.Cond.methodLink "PrinterClaims$Order$5" (41 : Nat) ({ cls := "PrinterClaims$State", name := "serve", desc := "()I" } : Jvm.MethodName)) ∈ lw_all := lw_g (lw_at lw_m8 64 rfl) rfl
theorem q1843 : (Jvm.Cond.interfaceEntry "PrinterClaims$Order$5" (49 : Nat)) ∈ lw_tbl := lw_at lw_m8 65 rfl
theorem q1844 : (Jvm.Cond.methodLink "PrinterClaims$Order$5" (49 : Nat) ({ cls := "java/util/List", name := "size", desc := "()I" } : Jvm.MethodName)) ∈ lw_all := lw_g (lw_at lw_m8 66 rfl) rfl
theorem q2007 : (Jvm.Cond.instantiable "PrinterClaims$Order$5" (1 : Nat)) ∈ lw_all := lw_g (lw_at lw_m8 229 rfl) rfl
theorem q2009 : (Jvm.Cond.instanceMethod ({ cls := "PrinterClaims$Order$5", name := "<init>", desc := "(I)V" } : Jvm.MethodName)) ∈ lw_all := lw_g (lw_at lw_m8 231 rfl) rfl
theorem q2010 : (Jvm.Cond.code ({ cls := "PrinterClaims$Order$5", name := "<init>", desc := "(I)V" } : Jvm.MethodName) prog_11_method_1_code (2 : Nat) (Option.none : Option Jvm.ClassFile.FieldType)) ∈ lw_all := lw_g (lw_at lw_m8 232 rfl) rfl
theorem q2011 : (Jvm.Cond.methodLink "PrinterClaims$Order$5" (7 : Nat) ({ cls := "java/lang/Object", name := "<init>", desc := "()V" } : Jvm.MethodName)) ∈ lw_all := lw_g (lw_at lw_m8 233 rfl) rfl
theorem q2012 : (Jvm.Cond.fieldLink "PrinterClaims$Order$5" (1 : Nat) "PrinterClaims$Order$5" "val$office" "I") ∈ lw_all := lw_g (lw_at lw_m8 234 rfl) rfl
theorem q2013 : (Jvm.Cond.laysFinal "PrinterClaims$Order$5" "PrinterClaims$Order$5" "val$office" "I") ∈ lw_all := lw_g (lw_at lw_m8 235 rfl) rfl
theorem q2014 : (Jvm.Cond.soleField "PrinterClaims$Order$5" "val$office") ∈ lw_all := lw_g (lw_at lw_m8 236 rfl) rfl
theorem q2015 : (Jvm.Cond.superclass "PrinterClaims$Order$5" "java/lang/Object") ∈ lw_all := lw_g (lw_at lw_m8 237 rfl) rfl
theorem q2988 : (Jvm.Cond.castable "PrinterClaims$Order$5" "java/lang/Object") ∈ lw_tbl := lw_at lw_m13 10 rfl
theorem in_X22 : ∀ w ∈ wsX220, w ∈ lw_all := lw_in wsX220 [2013] (by decide +kernel) (by decide +kernel)

/-! PrinterClaims$Order$3 -/
set_option maxRecDepth 100000
def RX23 : String := "PrinterClaims$Order$3"
def TX23 : u_T := fun k => match k with
  | 0 => ("PrinterClaims$PlaceOrder", "placeOffice", "I", true)
  | 1 => ("PrinterClaims$PlaceOrder", "placeKind", "I", true)
  | 2 => ("PrinterClaims$PlaceOrder", "min", "I", true)
  | 3 => ("PrinterClaims$PlaceOrder", "max", "I", true)
  | 4 => ("PrinterClaims$PlaceOrder", "number", "I", true)
  | 5 => ("PrinterClaims$Order$3", "val$claim", "I", true)
  | 6 => ("PrinterClaims$Order$3", "val$kind", "I", true)
  | _ => ("PrinterClaims$Order$3", "val$office", "I", true)
def tyX23 : Nat → FieldType := fun k => match k with
  | 0 => .int
  | 1 => .int
  | 2 => .int
  | 3 => .int
  | 4 => .int
  | 5 => .int
  | 6 => .int
  | _ => .int
abbrev wsX230 : List Cond := u_ws RX23 TX23 8
theorem nmX23 : ∀ a, a < 8 → ∀ b, b < 8 → a ≠ b → (TX23 a).2.1 ≠ (TX23 b).2.1 := by decide +kernel
theorem tyX23_ok : ∀ k, k < 8 → parseFieldDescriptor (TX23 k).2.2.1 = some (tyX23 k) := by decide +kernel
abbrev cX23_run : ByteArray := prog_9_method_2_code
def yX23_run : MethodName := ⟨RX23, "run", "(LPrinterClaims$State;LPrinterClaims$Office;)I"⟩
def dkwX23_run_6 : List UInt8 := [54, 6, 21, 5, 172]
abbrev dktX23_run_6 : List UInt8 := dkwX23_run_6 ++ []
def dkwX23_run_5 : List UInt8 := [42, 180, 0, 7, 46, 54, 5, 44, 180, 0, 62, 42, 180, 0, 7, 42, 180, 0, 1, 79, 43, 182, 0, 65]
abbrev dktX23_run_5 : List UInt8 := dkwX23_run_5 ++ dktX23_run_6
def dkwX23_run_4 : List UInt8 := [180, 0, 10, 42, 180, 0, 7, 42, 180, 0, 1, 182, 0, 58, 178, 0, 55, 184, 0, 31, 44, 180, 0, 62]
abbrev dktX23_run_4 : List UInt8 := dkwX23_run_4 ++ dktX23_run_5
def dkwX23_run_3 : List UInt8 := [180, 0, 7, 46, 21, 4, 96, 161, 0, 7, 4, 167, 0, 4, 3, 178, 0, 55, 184, 0, 31, 43, 42]
abbrev dktX23_run_3 : List UInt8 := dkwX23_run_3 ++ dktX23_run_4
def dkwX23_run_2 : List UInt8 := [160, 0, 10, 45, 182, 0, 47, 167, 0, 4, 3, 54, 4, 42, 180, 0, 1, 44, 180, 0, 50, 42]
abbrev dktX23_run_2 : List UInt8 := dkwX23_run_2 ++ dktX23_run_3
def dkwX23_run_1 : List UInt8 := [184, 0, 31, 43, 42, 180, 0, 10, 182, 0, 37, 78, 45, 198, 0, 21, 45, 182, 0, 41, 42, 180, 0, 7]
abbrev dktX23_run_1 : List UInt8 := dkwX23_run_1 ++ dktX23_run_2
def dkwX23_run_0 : List UInt8 := [42, 180, 0, 1, 43, 180, 0, 19, 42, 180, 0, 7, 46, 163, 0, 7, 4, 167, 0, 4, 3, 178, 0, 25]
abbrev dktX23_run_0 : List UInt8 := dkwX23_run_0 ++ dktX23_run_1
theorem dksX23_run_0 : cX23_run.data.toList.drop 0 = dktX23_run_0 := by decide +kernel
theorem dksX23_run_1 : cX23_run.data.toList.drop 24 = dktX23_run_1 := dk_seg dksX23_run_0 24 rfl rfl
theorem dksX23_run_2 : cX23_run.data.toList.drop 48 = dktX23_run_2 := dk_seg dksX23_run_1 24 rfl rfl
theorem dksX23_run_3 : cX23_run.data.toList.drop 70 = dktX23_run_3 := dk_seg dksX23_run_2 22 rfl rfl
theorem dksX23_run_4 : cX23_run.data.toList.drop 93 = dktX23_run_4 := dk_seg dksX23_run_3 23 rfl rfl
theorem dksX23_run_5 : cX23_run.data.toList.drop 117 = dktX23_run_5 := dk_seg dksX23_run_4 24 rfl rfl
theorem dksX23_run_6 : cX23_run.data.toList.drop 141 = dktX23_run_6 := dk_seg dksX23_run_5 24 rfl rfl
theorem dX23_run_0 : decode cX23_run 0 = .ok (.aload_n 0, 1) := dk_42 (dk_at dksX23_run_0 0 rfl rfl)
theorem dX23_run_1 : decode cX23_run 1 = .ok (.getfield 1, 3) := dk_180 0 1 (dk_at dksX23_run_0 1 rfl rfl)
theorem dX23_run_4 : decode cX23_run 4 = .ok (.aload_n 1, 1) := dk_43 (dk_at dksX23_run_0 4 rfl rfl)
theorem dX23_run_5 : decode cX23_run 5 = .ok (.getfield 19, 3) := dk_180 0 19 (dk_at dksX23_run_0 5 rfl rfl)
theorem dX23_run_8 : decode cX23_run 8 = .ok (.aload_n 0, 1) := dk_42 (dk_at dksX23_run_0 8 rfl rfl)
theorem dX23_run_9 : decode cX23_run 9 = .ok (.getfield 7, 3) := dk_180 0 7 (dk_at dksX23_run_0 9 rfl rfl)
theorem dX23_run_12 : decode cX23_run 12 = .ok (.iaload, 1) := dk_46 (dk_at dksX23_run_0 12 rfl rfl)
theorem dX23_run_13 : decode cX23_run 13 = .ok (.if_icmp .gt 7, 3) := dk_163 0 7 (dk_at dksX23_run_0 13 rfl rfl)
theorem dX23_run_16 : decode cX23_run 16 = .ok (.iconst 1, 1) := dk_4 (dk_at dksX23_run_0 16 rfl rfl)
theorem dX23_run_17 : decode cX23_run 17 = .ok (.goto 4, 3) := dk_167 0 4 (dk_at dksX23_run_0 17 rfl rfl)
theorem dX23_run_20 : decode cX23_run 20 = .ok (.iconst 0, 1) := dk_3 (dk_at dksX23_run_0 20 rfl rfl)
theorem dX23_run_21 : decode cX23_run 21 = .ok (.getstatic 25, 3) := dk_178 0 25 (dk_at dksX23_run_0 21 rfl rfl)
theorem dX23_run_24 : decode cX23_run 24 = .ok (.invokestatic 31, 3) := dk_184 0 31 (dk_at dksX23_run_1 0 rfl rfl)
theorem dX23_run_27 : decode cX23_run 27 = .ok (.aload_n 1, 1) := dk_43 (dk_at dksX23_run_1 3 rfl rfl)
theorem dX23_run_28 : decode cX23_run 28 = .ok (.aload_n 0, 1) := dk_42 (dk_at dksX23_run_1 4 rfl rfl)
theorem dX23_run_29 : decode cX23_run 29 = .ok (.getfield 10, 3) := dk_180 0 10 (dk_at dksX23_run_1 5 rfl rfl)
theorem dX23_run_32 : decode cX23_run 32 = .ok (.invokevirtual 37, 3) := dk_182 0 37 (dk_at dksX23_run_1 8 rfl rfl)
theorem dX23_run_35 : decode cX23_run 35 = .ok (.astore_n 3, 1) := dk_78 (dk_at dksX23_run_1 11 rfl rfl)
theorem dX23_run_36 : decode cX23_run 36 = .ok (.aload_n 3, 1) := dk_45 (dk_at dksX23_run_1 12 rfl rfl)
theorem dX23_run_37 : decode cX23_run 37 = .ok (.ifnull 21, 3) := dk_198 0 21 (dk_at dksX23_run_1 13 rfl rfl)
theorem dX23_run_40 : decode cX23_run 40 = .ok (.aload_n 3, 1) := dk_45 (dk_at dksX23_run_1 16 rfl rfl)
theorem dX23_run_41 : decode cX23_run 41 = .ok (.invokevirtual 41, 3) := dk_182 0 41 (dk_at dksX23_run_1 17 rfl rfl)
theorem dX23_run_44 : decode cX23_run 44 = .ok (.aload_n 0, 1) := dk_42 (dk_at dksX23_run_1 20 rfl rfl)
theorem dX23_run_45 : decode cX23_run 45 = .ok (.getfield 7, 3) := dk_180 0 7 (dk_at dksX23_run_1 21 rfl rfl)
theorem dX23_run_48 : decode cX23_run 48 = .ok (.if_icmp .ne 10, 3) := dk_160 0 10 (dk_at dksX23_run_2 0 rfl rfl)
theorem dX23_run_51 : decode cX23_run 51 = .ok (.aload_n 3, 1) := dk_45 (dk_at dksX23_run_2 3 rfl rfl)
theorem dX23_run_52 : decode cX23_run 52 = .ok (.invokevirtual 47, 3) := dk_182 0 47 (dk_at dksX23_run_2 4 rfl rfl)
theorem dX23_run_55 : decode cX23_run 55 = .ok (.goto 4, 3) := dk_167 0 4 (dk_at dksX23_run_2 7 rfl rfl)
theorem dX23_run_58 : decode cX23_run 58 = .ok (.iconst 0, 1) := dk_3 (dk_at dksX23_run_2 10 rfl rfl)
theorem dX23_run_59 : decode cX23_run 59 = .ok (.istore 4, 2) := dk_54 4 (dk_at dksX23_run_2 11 rfl rfl)
theorem dX23_run_61 : decode cX23_run 61 = .ok (.aload_n 0, 1) := dk_42 (dk_at dksX23_run_2 13 rfl rfl)
theorem dX23_run_62 : decode cX23_run 62 = .ok (.getfield 1, 3) := dk_180 0 1 (dk_at dksX23_run_2 14 rfl rfl)
theorem dX23_run_65 : decode cX23_run 65 = .ok (.aload_n 2, 1) := dk_44 (dk_at dksX23_run_2 17 rfl rfl)
theorem dX23_run_66 : decode cX23_run 66 = .ok (.getfield 50, 3) := dk_180 0 50 (dk_at dksX23_run_2 18 rfl rfl)
theorem dX23_run_69 : decode cX23_run 69 = .ok (.aload_n 0, 1) := dk_42 (dk_at dksX23_run_2 21 rfl rfl)
theorem dX23_run_70 : decode cX23_run 70 = .ok (.getfield 7, 3) := dk_180 0 7 (dk_at dksX23_run_3 0 rfl rfl)
theorem dX23_run_73 : decode cX23_run 73 = .ok (.iaload, 1) := dk_46 (dk_at dksX23_run_3 3 rfl rfl)
theorem dX23_run_74 : decode cX23_run 74 = .ok (.iload 4, 2) := dk_21 4 (dk_at dksX23_run_3 4 rfl rfl)
theorem dX23_run_76 : decode cX23_run 76 = .ok (.iadd, 1) := dk_96 (dk_at dksX23_run_3 6 rfl rfl)
theorem dX23_run_77 : decode cX23_run 77 = .ok (.if_icmp .lt 7, 3) := dk_161 0 7 (dk_at dksX23_run_3 7 rfl rfl)
theorem dX23_run_80 : decode cX23_run 80 = .ok (.iconst 1, 1) := dk_4 (dk_at dksX23_run_3 10 rfl rfl)
theorem dX23_run_81 : decode cX23_run 81 = .ok (.goto 4, 3) := dk_167 0 4 (dk_at dksX23_run_3 11 rfl rfl)
theorem dX23_run_84 : decode cX23_run 84 = .ok (.iconst 0, 1) := dk_3 (dk_at dksX23_run_3 14 rfl rfl)
theorem dX23_run_85 : decode cX23_run 85 = .ok (.getstatic 55, 3) := dk_178 0 55 (dk_at dksX23_run_3 15 rfl rfl)
theorem dX23_run_88 : decode cX23_run 88 = .ok (.invokestatic 31, 3) := dk_184 0 31 (dk_at dksX23_run_3 18 rfl rfl)
theorem dX23_run_91 : decode cX23_run 91 = .ok (.aload_n 1, 1) := dk_43 (dk_at dksX23_run_3 21 rfl rfl)
theorem dX23_run_92 : decode cX23_run 92 = .ok (.aload_n 0, 1) := dk_42 (dk_at dksX23_run_3 22 rfl rfl)
theorem dX23_run_93 : decode cX23_run 93 = .ok (.getfield 10, 3) := dk_180 0 10 (dk_at dksX23_run_4 0 rfl rfl)
theorem dX23_run_96 : decode cX23_run 96 = .ok (.aload_n 0, 1) := dk_42 (dk_at dksX23_run_4 3 rfl rfl)
theorem dX23_run_97 : decode cX23_run 97 = .ok (.getfield 7, 3) := dk_180 0 7 (dk_at dksX23_run_4 4 rfl rfl)
theorem dX23_run_100 : decode cX23_run 100 = .ok (.aload_n 0, 1) := dk_42 (dk_at dksX23_run_4 7 rfl rfl)
theorem dX23_run_101 : decode cX23_run 101 = .ok (.getfield 1, 3) := dk_180 0 1 (dk_at dksX23_run_4 8 rfl rfl)
theorem dX23_run_104 : decode cX23_run 104 = .ok (.invokevirtual 58, 3) := dk_182 0 58 (dk_at dksX23_run_4 11 rfl rfl)
theorem dX23_run_107 : decode cX23_run 107 = .ok (.getstatic 55, 3) := dk_178 0 55 (dk_at dksX23_run_4 14 rfl rfl)
theorem dX23_run_110 : decode cX23_run 110 = .ok (.invokestatic 31, 3) := dk_184 0 31 (dk_at dksX23_run_4 17 rfl rfl)
theorem dX23_run_113 : decode cX23_run 113 = .ok (.aload_n 2, 1) := dk_44 (dk_at dksX23_run_4 20 rfl rfl)
theorem dX23_run_114 : decode cX23_run 114 = .ok (.getfield 62, 3) := dk_180 0 62 (dk_at dksX23_run_4 21 rfl rfl)
theorem dX23_run_117 : decode cX23_run 117 = .ok (.aload_n 0, 1) := dk_42 (dk_at dksX23_run_5 0 rfl rfl)
theorem dX23_run_118 : decode cX23_run 118 = .ok (.getfield 7, 3) := dk_180 0 7 (dk_at dksX23_run_5 1 rfl rfl)
theorem dX23_run_121 : decode cX23_run 121 = .ok (.iaload, 1) := dk_46 (dk_at dksX23_run_5 4 rfl rfl)
theorem dX23_run_122 : decode cX23_run 122 = .ok (.istore 5, 2) := dk_54 5 (dk_at dksX23_run_5 5 rfl rfl)
theorem dX23_run_124 : decode cX23_run 124 = .ok (.aload_n 2, 1) := dk_44 (dk_at dksX23_run_5 7 rfl rfl)
theorem dX23_run_125 : decode cX23_run 125 = .ok (.getfield 62, 3) := dk_180 0 62 (dk_at dksX23_run_5 8 rfl rfl)
theorem dX23_run_128 : decode cX23_run 128 = .ok (.aload_n 0, 1) := dk_42 (dk_at dksX23_run_5 11 rfl rfl)
theorem dX23_run_129 : decode cX23_run 129 = .ok (.getfield 7, 3) := dk_180 0 7 (dk_at dksX23_run_5 12 rfl rfl)
theorem dX23_run_132 : decode cX23_run 132 = .ok (.aload_n 0, 1) := dk_42 (dk_at dksX23_run_5 15 rfl rfl)
theorem dX23_run_133 : decode cX23_run 133 = .ok (.getfield 1, 3) := dk_180 0 1 (dk_at dksX23_run_5 16 rfl rfl)
theorem dX23_run_136 : decode cX23_run 136 = .ok (.iastore, 1) := dk_79 (dk_at dksX23_run_5 19 rfl rfl)
theorem dX23_run_137 : decode cX23_run 137 = .ok (.aload_n 1, 1) := dk_43 (dk_at dksX23_run_5 20 rfl rfl)
theorem dX23_run_138 : decode cX23_run 138 = .ok (.invokevirtual 65, 3) := dk_182 0 65 (dk_at dksX23_run_5 21 rfl rfl)
theorem dX23_run_141 : decode cX23_run 141 = .ok (.istore 6, 2) := dk_54 6 (dk_at dksX23_run_6 0 rfl rfl)
theorem dX23_run_143 : decode cX23_run 143 = .ok (.iload 5, 2) := dk_21 5 (dk_at dksX23_run_6 2 rfl rfl)
theorem dX23_run_145 : decode cX23_run 145 = .ok (.ireturn, 1) := dk_172 (dk_at dksX23_run_6 4 rfl rfl)
abbrev cX23_init : ByteArray := prog_9_method_1_code
def yX23_init : MethodName := ⟨RX23, "<init>", "(IIIIIIII)V"⟩
def dkwX23_init_1 : List UInt8 := [21, 5, 183, 0, 13, 177]
abbrev dktX23_init_1 : List UInt8 := dkwX23_init_1 ++ []
def dkwX23_init_0 : List UInt8 := [42, 21, 6, 181, 0, 1, 42, 21, 7, 181, 0, 7, 42, 21, 8, 181, 0, 10, 42, 27, 28, 29, 21, 4]
abbrev dktX23_init_0 : List UInt8 := dkwX23_init_0 ++ dktX23_init_1
theorem dksX23_init_0 : cX23_init.data.toList.drop 0 = dktX23_init_0 := by decide +kernel
theorem dksX23_init_1 : cX23_init.data.toList.drop 24 = dktX23_init_1 := dk_seg dksX23_init_0 24 rfl rfl
theorem dX23_init_0 : decode cX23_init 0 = .ok (.aload_n 0, 1) := dk_42 (dk_at dksX23_init_0 0 rfl rfl)
theorem dX23_init_1 : decode cX23_init 1 = .ok (.iload 6, 2) := dk_21 6 (dk_at dksX23_init_0 1 rfl rfl)
theorem dX23_init_3 : decode cX23_init 3 = .ok (.putfield 1, 3) := dk_181 0 1 (dk_at dksX23_init_0 3 rfl rfl)
theorem dX23_init_6 : decode cX23_init 6 = .ok (.aload_n 0, 1) := dk_42 (dk_at dksX23_init_0 6 rfl rfl)
theorem dX23_init_7 : decode cX23_init 7 = .ok (.iload 7, 2) := dk_21 7 (dk_at dksX23_init_0 7 rfl rfl)
theorem dX23_init_9 : decode cX23_init 9 = .ok (.putfield 7, 3) := dk_181 0 7 (dk_at dksX23_init_0 9 rfl rfl)
theorem dX23_init_12 : decode cX23_init 12 = .ok (.aload_n 0, 1) := dk_42 (dk_at dksX23_init_0 12 rfl rfl)
theorem dX23_init_13 : decode cX23_init 13 = .ok (.iload 8, 2) := dk_21 8 (dk_at dksX23_init_0 13 rfl rfl)
theorem dX23_init_15 : decode cX23_init 15 = .ok (.putfield 10, 3) := dk_181 0 10 (dk_at dksX23_init_0 15 rfl rfl)
theorem dX23_init_18 : decode cX23_init 18 = .ok (.aload_n 0, 1) := dk_42 (dk_at dksX23_init_0 18 rfl rfl)
theorem dX23_init_19 : decode cX23_init 19 = .ok (.iload_n 1, 1) := dk_27 (dk_at dksX23_init_0 19 rfl rfl)
theorem dX23_init_20 : decode cX23_init 20 = .ok (.iload_n 2, 1) := dk_28 (dk_at dksX23_init_0 20 rfl rfl)
theorem dX23_init_21 : decode cX23_init 21 = .ok (.iload_n 3, 1) := dk_29 (dk_at dksX23_init_0 21 rfl rfl)
theorem dX23_init_22 : decode cX23_init 22 = .ok (.iload 4, 2) := dk_21 4 (dk_at dksX23_init_0 22 rfl rfl)
theorem dX23_init_24 : decode cX23_init 24 = .ok (.iload 5, 2) := dk_21 5 (dk_at dksX23_init_1 0 rfl rfl)
theorem dX23_init_26 : decode cX23_init 26 = .ok (.invokespecial 13, 3) := dk_183 0 13 (dk_at dksX23_init_1 2 rfl rfl)
theorem dX23_init_29 : decode cX23_init 29 = .ok (.return_, 1) := dk_177 (dk_at dksX23_init_1 5 rfl rfl)
theorem q149 : (Jvm.Cond.initialized "PrinterClaims$Order$3") ∈ lw_all := lw_g (lw_at lw_m1 51 rfl) rfl
theorem q542 : (Jvm.Cond.fieldLinkNest "PrinterClaims$Order$3" (19 : Nat) "PrinterClaims$State" "totals" "[I" "PrinterClaims") ∈ lw_tbl := lw_at lw_m2 204 rfl
theorem q599 : (Jvm.Cond.fieldLinkNest "PrinterClaims$Order$3" (62 : Nat) "PrinterClaims$Office" "claims" "[I" "PrinterClaims") ∈ lw_tbl := lw_at lw_m3 21 rfl
theorem q604 : (Jvm.Cond.fieldLinkNest "PrinterClaims$Order$3" (50 : Nat) "PrinterClaims$Office" "allocations" "[I" "PrinterClaims") ∈ lw_tbl := lw_at lw_m3 26 rfl
theorem q653 : (Jvm.Cond.selects "PrinterClaims$Order$3" ({ cls := "java/lang/Object", name := "getClass", desc := "()Ljava/lang/Class;" } : Jvm.MethodName) ({ cls := "java/lang/Object", name := "getClass", desc := "()Ljava/lang/Class;" } : Jvm.MethodName)) ∈ lw_all := lw_g (lw_at lw_m3 75 rfl) rfl
theorem q1800 : (Jvm.Cond.selects "PrinterClaims$Order$3" ({ cls := "PrinterClaims$PlaceOrder", name := "run", desc := "(LPrinterClaims$State;LPrinterClaims$Office;)I" } : Jvm.MethodName) ({ cls := "PrinterClaims$Order$3", name := "run", desc := "(LPrinterClaims$State;LPrinterClaims$Office;)I" } : Jvm.MethodName)) ∈ lw_all := lw_g (lw_at lw_m8 22 rfl) rfl
theorem q1801 : (Jvm.Cond.instanceMethod ({ cls := "PrinterClaims$Order$3", name := "run", desc := "(LPrinterClaims$State;LPrinterClaims$Office;)I" } : Jvm.MethodName)) ∈ lw_all := lw_g (lw_at lw_m8 23 rfl) rfl
theorem q1802 : (Jvm.Cond.code ({ cls := "PrinterClaims$Order$3", name := "run", desc := "(LPrinterClaims$State;LPrinterClaims$Office;)I" } : Jvm.MethodName) prog_9_method_2_code (7 : Nat) (Option.some Jvm.ClassFile.FieldType.int)) ∈ lw_all := lw_g (lw_at lw_m8 24 rfl) rfl
theorem q1803 : (Jvm.Cond.fieldLink "PrinterClaims$Order$3" (25 : Nat) "PrinterClaims$Reason" "ARGUMENT" "LPrinterClaims$Reason;") ∈ lw_all := lw_g (lw_at lw_m8 25 rfl) rfl
theorem q1804 : (Jvm.Cond.methodLinkNest "PrinterClaims$Order$3" (31 : Nat) ({ cls := "PrinterClaims", name := "need", desc := "(ZLPrinterClaims$Reason;)V" } : Jvm.MethodName) "PrinterClaims") ∈ lw_tbl := lw_at lw_m8 26 rfl
theorem q1805 : (Jvm.Cond.methodLink "PrinterClaims$Order$3" (37 : Nat) ({ cls := "PrinterClaims$State", name := "wishOf", desc := "(I)LPrinterClaims$Wish;" } : Jvm.MethodName)) ∈ lw_all := lw_g (lw_at lw_m8 27 rfl) rfl
theorem q1806 : (Jvm.Cond.methodLink "PrinterClaims$Order$3" (41 : Nat) ({ cls := "PrinterClaims$Wish", name := "kind", desc := "()I" } : Jvm.MethodName)) ∈ lw_all := lw_g (lw_at lw_m8 28 rfl) rfl
theorem q1807 : (Jvm.Cond.methodLink "PrinterClaims$Order$3" (47 : Nat) ({ cls := "PrinterClaims$Wish", name := "count", desc := "()I" } : Jvm.MethodName)) ∈ lw_all := lw_g (lw_at lw_m8 29 rfl) rfl
theorem q1808 : (Jvm.Cond.fieldLink "PrinterClaims$Order$3" (55 : Nat) "PrinterClaims$Reason" "STATE" "LPrinterClaims$Reason;") ∈ lw_all := lw_g (lw_at lw_m8 30 rfl) rfl
theorem q1809 : (Jvm.Cond.methodLink "PrinterClaims$Order$3" (58 : Nat) ({ cls := "PrinterClaims$State", name := "canClaim", desc := "(III)Z" } : Jvm.MethodName)) ∈ lw_all := lw_g (lw_at lw_m8 31 rfl) rfl
theorem q1813 : (Jvm.Cond.methodLink "PrinterClaims$Order$3" (65 : Nat) ({ cls := "PrinterClaims$State", name := "serve", desc := "()I" } : Jvm.MethodName)) ∈ lw_all := lw_g (lw_at lw_m8 35 rfl) rfl
theorem q1817 : (Jvm.Cond.castable "PrinterClaims$Order$3" "PrinterClaims$Order") ∈ lw_tbl := lw_at lw_m8 39 rfl
theorem q1818 : (Jvm.Cond.selects "PrinterClaims$Order$3" ({ cls := "PrinterClaims$Order", name := "run", desc := "(LPrinterClaims$State;)I" } : Jvm.MethodName) ({ cls := "PrinterClaims$PlaceOrder", name := "run", desc := "(LPrinterClaims$State;)I" } : Jvm.MethodName)) ∈ lw_all := lw_g (lw_at lw_m8 40 rfl) rfl
theorem q1819 : (Jvm.Cond.unhidden "PrinterClaims$Order$3" "run" "(LPrinterClaims$State;)I") ∈ lw_tbl := lw_at lw_m8 41 rfl
theorem q2027 : (Jvm.Cond.instantiable "PrinterClaims$Order$3" (8 : Nat)) ∈ lw_all := lw_g (lw_at lw_m9 9 rfl) rfl
theorem q2029 : (Jvm.Cond.instanceMethod ({ cls := "PrinterClaims$Order$3", name := "<init>", desc := "(IIIIIIII)V" } : Jvm.MethodName)) ∈ lw_all := lw_g (lw_at lw_m9 11 rfl) rfl
theorem q2030 : (Jvm.Cond.code ({ cls := "PrinterClaims$Order$3", name := "<init>", desc := "(IIIIIIII)V" } : Jvm.MethodName) prog_9_method_1_code (9 : Nat) (Option.none : Option Jvm.ClassFile.FieldType)) ∈ lw_all := lw_g (lw_at lw_m9 12 rfl) rfl
theorem q2031 : (Jvm.Cond.methodLink "PrinterClaims$Order$3" (13 : Nat) ({ cls := "PrinterClaims$PlaceOrder", name := "<init>", desc := "(IIIII)V" } : Jvm.MethodName)) ∈ lw_all := lw_g (lw_at lw_m9 13 rfl) rfl
theorem q2032 : (Jvm.Cond.fieldLink "PrinterClaims$Order$3" (1 : Nat) "PrinterClaims$Order$3" "val$claim" "I") ∈ lw_all := lw_g (lw_at lw_m9 14 rfl) rfl
theorem q2033 : (Jvm.Cond.fieldLink "PrinterClaims$Order$3" (7 : Nat) "PrinterClaims$Order$3" "val$kind" "I") ∈ lw_all := lw_g (lw_at lw_m9 15 rfl) rfl
theorem q2034 : (Jvm.Cond.fieldLink "PrinterClaims$Order$3" (10 : Nat) "PrinterClaims$Order$3" "val$office" "I") ∈ lw_all := lw_g (lw_at lw_m9 16 rfl) rfl
theorem q2035 : (Jvm.Cond.laysFinal "PrinterClaims$Order$3" "PrinterClaims$Order$3" "val$claim" "I") ∈ lw_all := lw_g (lw_at lw_m9 17 rfl) rfl
theorem q2036 : (Jvm.Cond.soleField "PrinterClaims$Order$3" "val$claim") ∈ lw_all := lw_g (lw_at lw_m9 18 rfl) rfl
theorem q2037 : (Jvm.Cond.laysFinal "PrinterClaims$Order$3" "PrinterClaims$Order$3" "val$kind" "I") ∈ lw_all := lw_g (lw_at lw_m9 19 rfl) rfl
theorem q2038 : (Jvm.Cond.soleField "PrinterClaims$Order$3" "val$kind") ∈ lw_all := lw_g (lw_at lw_m9 20 rfl) rfl
theorem q2039 : (Jvm.Cond.laysFinal "PrinterClaims$Order$3" "PrinterClaims$Order$3" "val$office" "I") ∈ lw_all := lw_g (lw_at lw_m9 21 rfl) rfl
theorem q2040 : (Jvm.Cond.soleField "PrinterClaims$Order$3" "val$office") ∈ lw_all := lw_g (lw_at lw_m9 22 rfl) rfl
theorem q2041 : (Jvm.Cond.laysFinal "PrinterClaims$Order$3" "PrinterClaims$PlaceOrder" "placeOffice" "I") ∈ lw_all := lw_g (lw_at lw_m9 23 rfl) rfl
theorem q2042 : (Jvm.Cond.laysFinal "PrinterClaims$Order$3" "PrinterClaims$PlaceOrder" "placeKind" "I") ∈ lw_all := lw_g (lw_at lw_m9 24 rfl) rfl
theorem q2043 : (Jvm.Cond.laysFinal "PrinterClaims$Order$3" "PrinterClaims$PlaceOrder" "min" "I") ∈ lw_all := lw_g (lw_at lw_m9 25 rfl) rfl
theorem q2044 : (Jvm.Cond.laysFinal "PrinterClaims$Order$3" "PrinterClaims$PlaceOrder" "max" "I") ∈ lw_all := lw_g (lw_at lw_m9 26 rfl) rfl
theorem q2045 : (Jvm.Cond.laysFinal "PrinterClaims$Order$3" "PrinterClaims$PlaceOrder" "number" "I") ∈ lw_all := lw_g (lw_at lw_m9 27 rfl) rfl
theorem q2046 : (Jvm.Cond.superclass "PrinterClaims$Order$3" "PrinterClaims$PlaceOrder") ∈ lw_all := lw_g (lw_at lw_m9 28 rfl) rfl
theorem q2989 : (Jvm.Cond.castable "PrinterClaims$Order$3" "java/lang/Object") ∈ lw_tbl := lw_at lw_m13 11 rfl
theorem in_X23 : ∀ w ∈ wsX230, w ∈ lw_all := lw_in wsX230 [2041, 2042, 2043, 2044, 2045, 2035, 2037, 2039] (by decide +kernel) (by decide +kernel)

/-! PrinterClaims$KindOrder -/
set_option maxRecDepth 100000
def RX24 : String := "PrinterClaims$KindOrder"
abbrev cX24_run : ByteArray := prog_3_method_2_code
def yX24_run : MethodName := ⟨RX24, "run", "(LPrinterClaims$State;)I"⟩
def dkwX24_run_1 : List UInt8 := [178, 0, 38, 184, 0, 30, 42, 43, 43, 180, 0, 41, 42, 180, 0, 9, 46, 182, 0, 45, 172]
abbrev dktX24_run_1 : List UInt8 := dkwX24_run_1 ++ []
def dkwX24_run_0 : List UInt8 := [43, 42, 180, 0, 9, 182, 0, 18, 178, 0, 24, 184, 0, 30, 42, 180, 0, 15, 4, 16, 20, 184, 0, 34]
abbrev dktX24_run_0 : List UInt8 := dkwX24_run_0 ++ dktX24_run_1
theorem dksX24_run_0 : cX24_run.data.toList.drop 0 = dktX24_run_0 := by decide +kernel
theorem dksX24_run_1 : cX24_run.data.toList.drop 24 = dktX24_run_1 := dk_seg dksX24_run_0 24 rfl rfl
theorem dX24_run_0 : decode cX24_run 0 = .ok (.aload_n 1, 1) := dk_43 (dk_at dksX24_run_0 0 rfl rfl)
theorem dX24_run_1 : decode cX24_run 1 = .ok (.aload_n 0, 1) := dk_42 (dk_at dksX24_run_0 1 rfl rfl)
theorem dX24_run_2 : decode cX24_run 2 = .ok (.getfield 9, 3) := dk_180 0 9 (dk_at dksX24_run_0 2 rfl rfl)
theorem dX24_run_5 : decode cX24_run 5 = .ok (.invokevirtual 18, 3) := dk_182 0 18 (dk_at dksX24_run_0 5 rfl rfl)
theorem dX24_run_8 : decode cX24_run 8 = .ok (.getstatic 24, 3) := dk_178 0 24 (dk_at dksX24_run_0 8 rfl rfl)
theorem dX24_run_11 : decode cX24_run 11 = .ok (.invokestatic 30, 3) := dk_184 0 30 (dk_at dksX24_run_0 11 rfl rfl)
theorem dX24_run_14 : decode cX24_run 14 = .ok (.aload_n 0, 1) := dk_42 (dk_at dksX24_run_0 14 rfl rfl)
theorem dX24_run_15 : decode cX24_run 15 = .ok (.getfield 15, 3) := dk_180 0 15 (dk_at dksX24_run_0 15 rfl rfl)
theorem dX24_run_18 : decode cX24_run 18 = .ok (.iconst 1, 1) := dk_4 (dk_at dksX24_run_0 18 rfl rfl)
theorem dX24_run_19 : decode cX24_run 19 = .ok (.bipush 20, 2) := dk_16 20 (dk_at dksX24_run_0 19 rfl rfl)
theorem dX24_run_21 : decode cX24_run 21 = .ok (.invokestatic 34, 3) := dk_184 0 34 (dk_at dksX24_run_0 21 rfl rfl)
theorem dX24_run_24 : decode cX24_run 24 = .ok (.getstatic 38, 3) := dk_178 0 38 (dk_at dksX24_run_1 0 rfl rfl)
theorem dX24_run_27 : decode cX24_run 27 = .ok (.invokestatic 30, 3) := dk_184 0 30 (dk_at dksX24_run_1 3 rfl rfl)
theorem dX24_run_30 : decode cX24_run 30 = .ok (.aload_n 0, 1) := dk_42 (dk_at dksX24_run_1 6 rfl rfl)
theorem dX24_run_31 : decode cX24_run 31 = .ok (.aload_n 1, 1) := dk_43 (dk_at dksX24_run_1 7 rfl rfl)
theorem dX24_run_32 : decode cX24_run 32 = .ok (.aload_n 1, 1) := dk_43 (dk_at dksX24_run_1 8 rfl rfl)
theorem dX24_run_33 : decode cX24_run 33 = .ok (.getfield 41, 3) := dk_180 0 41 (dk_at dksX24_run_1 9 rfl rfl)
theorem dX24_run_36 : decode cX24_run 36 = .ok (.aload_n 0, 1) := dk_42 (dk_at dksX24_run_1 12 rfl rfl)
theorem dX24_run_37 : decode cX24_run 37 = .ok (.getfield 9, 3) := dk_180 0 9 (dk_at dksX24_run_1 13 rfl rfl)
theorem dX24_run_40 : decode cX24_run 40 = .ok (.iaload, 1) := dk_46 (dk_at dksX24_run_1 16 rfl rfl)
theorem dX24_run_41 : decode cX24_run 41 = .ok (.invokevirtual 45, 3) := dk_182 0 45 (dk_at dksX24_run_1 17 rfl rfl)
theorem dX24_run_44 : decode cX24_run 44 = .ok (.ireturn, 1) := dk_172 (dk_at dksX24_run_1 20 rfl rfl)
abbrev cX24_init : ByteArray := prog_3_method_1_code
def yX24_init : MethodName := ⟨RX24, "<init>", "(II)V"⟩
def dkwX24_init_0 : List UInt8 := [42, 183, 0, 3, 42, 27, 181, 0, 9, 42, 28, 181, 0, 15, 177]
abbrev dktX24_init_0 : List UInt8 := dkwX24_init_0 ++ []
theorem dksX24_init_0 : cX24_init.data.toList.drop 0 = dktX24_init_0 := by decide +kernel
theorem dX24_init_0 : decode cX24_init 0 = .ok (.aload_n 0, 1) := dk_42 (dk_at dksX24_init_0 0 rfl rfl)
theorem dX24_init_1 : decode cX24_init 1 = .ok (.invokespecial 3, 3) := dk_183 0 3 (dk_at dksX24_init_0 1 rfl rfl)
theorem dX24_init_4 : decode cX24_init 4 = .ok (.aload_n 0, 1) := dk_42 (dk_at dksX24_init_0 4 rfl rfl)
theorem dX24_init_5 : decode cX24_init 5 = .ok (.iload_n 1, 1) := dk_27 (dk_at dksX24_init_0 5 rfl rfl)
theorem dX24_init_6 : decode cX24_init 6 = .ok (.putfield 9, 3) := dk_181 0 9 (dk_at dksX24_init_0 6 rfl rfl)
theorem dX24_init_9 : decode cX24_init 9 = .ok (.aload_n 0, 1) := dk_42 (dk_at dksX24_init_0 9 rfl rfl)
theorem dX24_init_10 : decode cX24_init 10 = .ok (.iload_n 2, 1) := dk_28 (dk_at dksX24_init_0 10 rfl rfl)
theorem dX24_init_11 : decode cX24_init 11 = .ok (.putfield 15, 3) := dk_181 0 15 (dk_at dksX24_init_0 11 rfl rfl)
theorem dX24_init_14 : decode cX24_init 14 = .ok (.return_, 1) := dk_177 (dk_at dksX24_init_0 14 rfl rfl)
theorem q150 : (Jvm.Cond.initialized "PrinterClaims$KindOrder") ∈ lw_all := lw_g (lw_at lw_m1 52 rfl) rfl
theorem q545 : (Jvm.Cond.fieldLinkNest "PrinterClaims$KindOrder" (41 : Nat) "PrinterClaims$State" "totals" "[I" "PrinterClaims") ∈ lw_tbl := lw_at lw_m2 207 rfl
theorem q1848 : (Jvm.Cond.instanceMethod ({ cls := "PrinterClaims$KindOrder", name := "run", desc := "(LPrinterClaims$State;)I" } : Jvm.MethodName)) ∈ lw_all := lw_g (lw_at lw_m8 70 rfl) rfl
theorem q1849 : (Jvm.Cond.publicMethod ({ cls := "PrinterClaims$KindOrder", name := "run", desc := "(LPrinterClaims$State;)I" } : Jvm.MethodName)) ∈ lw_tbl := lw_at lw_m8 71 rfl
theorem q1850 : (Jvm.Cond.code ({ cls := "PrinterClaims$KindOrder", name := "run", desc := "(LPrinterClaims$State;)I" } : Jvm.MethodName) prog_3_method_2_code (2 : Nat) (Option.some Jvm.ClassFile.FieldType.int)) ∈ lw_all := lw_g (lw_at lw_m8 72 rfl) rfl
theorem q1851 : (Jvm.Cond.methodLink "PrinterClaims$KindOrder" (18 : Nat) ({ cls := "PrinterClaims$State", name := "hasKind", desc := "(I)Z" } : Jvm.MethodName)) ∈ lw_all := lw_g (lw_at lw_m8 73 rfl) rfl
theorem q1852 : (Jvm.Cond.fieldLink "PrinterClaims$KindOrder" (24 : Nat) "PrinterClaims$Reason" "MISSING" "LPrinterClaims$Reason;") ∈ lw_all := lw_g (lw_at lw_m8 74 rfl) rfl
theorem q1853 : (Jvm.Cond.methodLinkNest "PrinterClaims$KindOrder" (30 : Nat) ({ cls := "PrinterClaims", name := "need", desc := "(ZLPrinterClaims$Reason;)V" } : Jvm.MethodName) "PrinterClaims") ∈ lw_tbl := lw_at lw_m8 75 rfl
theorem q1854 : (Jvm.Cond.methodLinkNest "PrinterClaims$KindOrder" (34 : Nat) ({ cls := "PrinterClaims", name := "inRange", desc := "(III)Z" } : Jvm.MethodName) "PrinterClaims") ∈ lw_tbl := lw_at lw_m8 76 rfl
theorem q1855 : (Jvm.Cond.fieldLink "PrinterClaims$KindOrder" (38 : Nat) "PrinterClaims$Reason" "ARGUMENT" "LPrinterClaims$Reason;") ∈ lw_all := lw_g (lw_at lw_m8 77 rfl) rfl
theorem q1856 : (Jvm.Cond.methodLink "PrinterClaims$KindOrder" (45 : Nat) ({ cls := "PrinterClaims$KindOrder", name := "run", desc := "(LPrinterClaims$State;I)I" } : Jvm.MethodName)) ∈ lw_all := lw_g (lw_at lw_m8 78 rfl) rfl
theorem q1857 : (Jvm.Cond.declares ({ cls := "PrinterClaims$KindOrder", name := "run", desc := "(LPrinterClaims$State;I)I" } : Jvm.MethodName)) ∈ lw_tbl := lw_at lw_m8 79 rfl
theorem q1858 : (Jvm.Cond.sameMethod "PrinterClaims$KindOrder" "PrinterClaims$KindOrder" "run" "(LPrinterClaims$State;I)I") ∈ lw_all := lw_g (lw_at lw_m8 80 rfl) rfl
theorem q2063 : (Jvm.Cond.instanceMethod ({ cls := "PrinterClaims$KindOrder", name := "<init>", desc := "(II)V" } : Jvm.MethodName)) ∈ lw_all := lw_g (lw_at lw_m9 45 rfl) rfl
theorem q2064 : (Jvm.Cond.code ({ cls := "PrinterClaims$KindOrder", name := "<init>", desc := "(II)V" } : Jvm.MethodName) prog_3_method_1_code (3 : Nat) (Option.none : Option Jvm.ClassFile.FieldType)) ∈ lw_all := lw_g (lw_at lw_m9 46 rfl) rfl
theorem q2065 : (Jvm.Cond.methodLink "PrinterClaims$KindOrder" (3 : Nat) ({ cls := "java/lang/Object", name := "<init>", desc := "()V" } : Jvm.MethodName)) ∈ lw_all := lw_g (lw_at lw_m9 47 rfl) rfl
theorem q2068 : (Jvm.Cond.fieldLink "PrinterClaims$KindOrder" (9 : Nat) "PrinterClaims$KindOrder" "orderKind" "I") ∈ lw_all := lw_g (lw_at lw_m9 50 rfl) rfl
theorem q2069 : (Jvm.Cond.fieldLink "PrinterClaims$KindOrder" (15 : Nat) "PrinterClaims$KindOrder" "number" "I") ∈ lw_all := lw_g (lw_at lw_m9 51 rfl) rfl
theorem q2075 : (Jvm.Cond.soleField "PrinterClaims$KindOrder" "orderKind") ∈ lw_all := lw_g (lw_at lw_m9 57 rfl) rfl
theorem q2077 : (Jvm.Cond.soleField "PrinterClaims$KindOrder" "number") ∈ lw_all := lw_g (lw_at lw_m9 59 rfl) rfl

/-! PrinterClaims$Order$6 -/
set_option maxRecDepth 100000
def RX25 : String := "PrinterClaims$Order$6"
def TX25 : u_T := fun k => match k with
  | 0 => ("PrinterClaims$KindOrder", "orderKind", "I", true)
  | 1 => ("PrinterClaims$KindOrder", "number", "I", true)
  | 2 => ("PrinterClaims$Order$6", "val$count", "I", true)
  | _ => ("PrinterClaims$Order$6", "val$kind", "I", true)
def tyX25 : Nat → FieldType := fun k => match k with
  | 0 => .int
  | 1 => .int
  | 2 => .int
  | _ => .int
abbrev wsX250 : List Cond := u_ws RX25 TX25 4
theorem nmX25 : ∀ a, a < 4 → ∀ b, b < 4 → a ≠ b → (TX25 a).2.1 ≠ (TX25 b).2.1 := by decide +kernel
theorem tyX25_ok : ∀ k, k < 4 → parseFieldDescriptor (TX25 k).2.2.1 = some (tyX25 k) := by decide +kernel
abbrev cX25_run : ByteArray := prog_12_method_2_code
def yX25_run : MethodName := ⟨RX25, "run", "(LPrinterClaims$State;I)I"⟩
def dkwX25_run_1 : List UInt8 := [180, 0, 28, 42, 180, 0, 9, 92, 46, 42, 180, 0, 3, 96, 79, 43, 182, 0, 34, 172]
abbrev dktX25_run_1 : List UInt8 := dkwX25_run_1 ++ []
def dkwX25_run_0 : List UInt8 := [28, 42, 180, 0, 3, 96, 16, 40, 163, 0, 7, 4, 167, 0, 4, 3, 178, 0, 18, 184, 0, 24, 43]
abbrev dktX25_run_0 : List UInt8 := dkwX25_run_0 ++ dktX25_run_1
theorem dksX25_run_0 : cX25_run.data.toList.drop 0 = dktX25_run_0 := by decide +kernel
theorem dksX25_run_1 : cX25_run.data.toList.drop 23 = dktX25_run_1 := dk_seg dksX25_run_0 23 rfl rfl
theorem dX25_run_0 : decode cX25_run 0 = .ok (.iload_n 2, 1) := dk_28 (dk_at dksX25_run_0 0 rfl rfl)
theorem dX25_run_1 : decode cX25_run 1 = .ok (.aload_n 0, 1) := dk_42 (dk_at dksX25_run_0 1 rfl rfl)
theorem dX25_run_2 : decode cX25_run 2 = .ok (.getfield 3, 3) := dk_180 0 3 (dk_at dksX25_run_0 2 rfl rfl)
theorem dX25_run_5 : decode cX25_run 5 = .ok (.iadd, 1) := dk_96 (dk_at dksX25_run_0 5 rfl rfl)
theorem dX25_run_6 : decode cX25_run 6 = .ok (.bipush 40, 2) := dk_16 40 (dk_at dksX25_run_0 6 rfl rfl)
theorem dX25_run_8 : decode cX25_run 8 = .ok (.if_icmp .gt 7, 3) := dk_163 0 7 (dk_at dksX25_run_0 8 rfl rfl)
theorem dX25_run_11 : decode cX25_run 11 = .ok (.iconst 1, 1) := dk_4 (dk_at dksX25_run_0 11 rfl rfl)
theorem dX25_run_12 : decode cX25_run 12 = .ok (.goto 4, 3) := dk_167 0 4 (dk_at dksX25_run_0 12 rfl rfl)
theorem dX25_run_15 : decode cX25_run 15 = .ok (.iconst 0, 1) := dk_3 (dk_at dksX25_run_0 15 rfl rfl)
theorem dX25_run_16 : decode cX25_run 16 = .ok (.getstatic 18, 3) := dk_178 0 18 (dk_at dksX25_run_0 16 rfl rfl)
theorem dX25_run_19 : decode cX25_run 19 = .ok (.invokestatic 24, 3) := dk_184 0 24 (dk_at dksX25_run_0 19 rfl rfl)
theorem dX25_run_22 : decode cX25_run 22 = .ok (.aload_n 1, 1) := dk_43 (dk_at dksX25_run_0 22 rfl rfl)
theorem dX25_run_23 : decode cX25_run 23 = .ok (.getfield 28, 3) := dk_180 0 28 (dk_at dksX25_run_1 0 rfl rfl)
theorem dX25_run_26 : decode cX25_run 26 = .ok (.aload_n 0, 1) := dk_42 (dk_at dksX25_run_1 3 rfl rfl)
theorem dX25_run_27 : decode cX25_run 27 = .ok (.getfield 9, 3) := dk_180 0 9 (dk_at dksX25_run_1 4 rfl rfl)
theorem dX25_run_30 : decode cX25_run 30 = .ok (.dup2, 1) := dk_92 (dk_at dksX25_run_1 7 rfl rfl)
theorem dX25_run_31 : decode cX25_run 31 = .ok (.iaload, 1) := dk_46 (dk_at dksX25_run_1 8 rfl rfl)
theorem dX25_run_32 : decode cX25_run 32 = .ok (.aload_n 0, 1) := dk_42 (dk_at dksX25_run_1 9 rfl rfl)
theorem dX25_run_33 : decode cX25_run 33 = .ok (.getfield 3, 3) := dk_180 0 3 (dk_at dksX25_run_1 10 rfl rfl)
theorem dX25_run_36 : decode cX25_run 36 = .ok (.iadd, 1) := dk_96 (dk_at dksX25_run_1 13 rfl rfl)
theorem dX25_run_37 : decode cX25_run 37 = .ok (.iastore, 1) := dk_79 (dk_at dksX25_run_1 14 rfl rfl)
theorem dX25_run_38 : decode cX25_run 38 = .ok (.aload_n 1, 1) := dk_43 (dk_at dksX25_run_1 15 rfl rfl)
theorem dX25_run_39 : decode cX25_run 39 = .ok (.invokevirtual 34, 3) := dk_182 0 34 (dk_at dksX25_run_1 16 rfl rfl)
theorem dX25_run_42 : decode cX25_run 42 = .ok (.ireturn, 1) := dk_172 (dk_at dksX25_run_1 19 rfl rfl)
abbrev cX25_init : ByteArray := prog_12_method_1_code
def yX25_init : MethodName := ⟨RX25, "<init>", "(IIII)V"⟩
def dkwX25_init_0 : List UInt8 := [42, 29, 181, 0, 3, 42, 21, 4, 181, 0, 9, 42, 27, 28, 183, 0, 12, 177]
abbrev dktX25_init_0 : List UInt8 := dkwX25_init_0 ++ []
theorem dksX25_init_0 : cX25_init.data.toList.drop 0 = dktX25_init_0 := by decide +kernel
theorem dX25_init_0 : decode cX25_init 0 = .ok (.aload_n 0, 1) := dk_42 (dk_at dksX25_init_0 0 rfl rfl)
theorem dX25_init_1 : decode cX25_init 1 = .ok (.iload_n 3, 1) := dk_29 (dk_at dksX25_init_0 1 rfl rfl)
theorem dX25_init_2 : decode cX25_init 2 = .ok (.putfield 3, 3) := dk_181 0 3 (dk_at dksX25_init_0 2 rfl rfl)
theorem dX25_init_5 : decode cX25_init 5 = .ok (.aload_n 0, 1) := dk_42 (dk_at dksX25_init_0 5 rfl rfl)
theorem dX25_init_6 : decode cX25_init 6 = .ok (.iload 4, 2) := dk_21 4 (dk_at dksX25_init_0 6 rfl rfl)
theorem dX25_init_8 : decode cX25_init 8 = .ok (.putfield 9, 3) := dk_181 0 9 (dk_at dksX25_init_0 8 rfl rfl)
theorem dX25_init_11 : decode cX25_init 11 = .ok (.aload_n 0, 1) := dk_42 (dk_at dksX25_init_0 11 rfl rfl)
theorem dX25_init_12 : decode cX25_init 12 = .ok (.iload_n 1, 1) := dk_27 (dk_at dksX25_init_0 12 rfl rfl)
theorem dX25_init_13 : decode cX25_init 13 = .ok (.iload_n 2, 1) := dk_28 (dk_at dksX25_init_0 13 rfl rfl)
theorem dX25_init_14 : decode cX25_init 14 = .ok (.invokespecial 12, 3) := dk_183 0 12 (dk_at dksX25_init_0 14 rfl rfl)
theorem dX25_init_17 : decode cX25_init 17 = .ok (.return_, 1) := dk_177 (dk_at dksX25_init_0 17 rfl rfl)
theorem q151 : (Jvm.Cond.initialized "PrinterClaims$Order$6") ∈ lw_all := lw_g (lw_at lw_m1 53 rfl) rfl
theorem q544 : (Jvm.Cond.fieldLinkNest "PrinterClaims$Order$6" (28 : Nat) "PrinterClaims$State" "totals" "[I" "PrinterClaims") ∈ lw_tbl := lw_at lw_m2 206 rfl
theorem q656 : (Jvm.Cond.selects "PrinterClaims$Order$6" ({ cls := "java/lang/Object", name := "getClass", desc := "()Ljava/lang/Class;" } : Jvm.MethodName) ({ cls := "java/lang/Object", name := "getClass", desc := "()Ljava/lang/Class;" } : Jvm.MethodName)) ∈ lw_all := lw_g (lw_at lw_m3 78 rfl) rfl
theorem q1845 : (Jvm.Cond.castable "PrinterClaims$Order$6" "PrinterClaims$Order") ∈ lw_tbl := lw_at lw_m8 67 rfl
theorem q1846 : (Jvm.Cond.selects "PrinterClaims$Order$6" ({ cls := "PrinterClaims$Order", name := "run", desc := "(LPrinterClaims$State;)I" } : Jvm.MethodName) ({ cls := "PrinterClaims$KindOrder", name := "run", desc := "(LPrinterClaims$State;)I" } : Jvm.MethodName)) ∈ lw_all := lw_g (lw_at lw_m8 68 rfl) rfl
theorem q1847 : (Jvm.Cond.unhidden "PrinterClaims$Order$6" "run" "(LPrinterClaims$State;)I") ∈ lw_tbl := lw_at lw_m8 69 rfl
theorem q1859 : (Jvm.Cond.selects "PrinterClaims$Order$6" ({ cls := "PrinterClaims$KindOrder", name := "run", desc := "(LPrinterClaims$State;I)I" } : Jvm.MethodName) ({ cls := "PrinterClaims$Order$6", name := "run", desc := "(LPrinterClaims$State;I)I" } : Jvm.MethodName)) ∈ lw_all := lw_g (lw_at lw_m8 81 rfl) rfl
theorem q1860 : (Jvm.Cond.instanceMethod ({ cls := "PrinterClaims$Order$6", name := "run", desc := "(LPrinterClaims$State;I)I" } : Jvm.MethodName)) ∈ lw_all := lw_g (lw_at lw_m8 82 rfl) rfl
theorem q1861 : (Jvm.Cond.code ({ cls := "PrinterClaims$Order$6", name := "run", desc := "(LPrinterClaims$State;I)I" } : Jvm.MethodName) prog_12_method_2_code (3 : Nat) (Option.some Jvm.ClassFile.FieldType.int)) ∈ lw_all := lw_g (lw_at lw_m8 83 rfl) rfl
theorem q1862 : (Jvm.Cond.fieldLink "PrinterClaims$Order$6" (18 : Nat) "PrinterClaims$Reason" "STATE" "LPrinterClaims$Reason;") ∈ lw_all := lw_g (lw_at lw_m8 84 rfl) rfl
theorem q1863 : (Jvm.Cond.methodLinkNest "PrinterClaims$Order$6" (24 : Nat) ({ cls := "PrinterClaims", name := "need", desc := "(ZLPrinterClaims$Reason;)V" } : Jvm.MethodName) "PrinterClaims") ∈ lw_tbl := lw_at lw_m8 85 rfl
theorem q1864 : (Jvm.Cond.methodLink "PrinterClaims$Order$6" (34 : Nat) ({ cls := "PrinterClaims$State", name := "serve", desc := "()I" } : Jvm.MethodName)) ∈ lw_all := lw_g (lw_at lw_m8 86 rfl) rfl
theorem q2058 : (Jvm.Cond.instantiable "PrinterClaims$Order$6" (4 : Nat)) ∈ lw_all := lw_g (lw_at lw_m9 40 rfl) rfl
theorem q2060 : (Jvm.Cond.instanceMethod ({ cls := "PrinterClaims$Order$6", name := "<init>", desc := "(IIII)V" } : Jvm.MethodName)) ∈ lw_all := lw_g (lw_at lw_m9 42 rfl) rfl
theorem q2061 : (Jvm.Cond.code ({ cls := "PrinterClaims$Order$6", name := "<init>", desc := "(IIII)V" } : Jvm.MethodName) prog_12_method_1_code (5 : Nat) (Option.none : Option Jvm.ClassFile.FieldType)) ∈ lw_all := lw_g (lw_at lw_m9 43 rfl) rfl
theorem q2062 : (Jvm.Cond.methodLink "PrinterClaims$Order$6" (12 : Nat) ({ cls := "PrinterClaims$KindOrder", name := "<init>", desc := "(II)V" } : Jvm.MethodName)) ∈ lw_all := lw_g (lw_at lw_m9 44 rfl) rfl
theorem q2066 : (Jvm.Cond.fieldLink "PrinterClaims$Order$6" (3 : Nat) "PrinterClaims$Order$6" "val$count" "I") ∈ lw_all := lw_g (lw_at lw_m9 48 rfl) rfl
theorem q2067 : (Jvm.Cond.fieldLink "PrinterClaims$Order$6" (9 : Nat) "PrinterClaims$Order$6" "val$kind" "I") ∈ lw_all := lw_g (lw_at lw_m9 49 rfl) rfl
theorem q2070 : (Jvm.Cond.laysFinal "PrinterClaims$Order$6" "PrinterClaims$Order$6" "val$count" "I") ∈ lw_all := lw_g (lw_at lw_m9 52 rfl) rfl
theorem q2071 : (Jvm.Cond.soleField "PrinterClaims$Order$6" "val$count") ∈ lw_all := lw_g (lw_at lw_m9 53 rfl) rfl
theorem q2072 : (Jvm.Cond.laysFinal "PrinterClaims$Order$6" "PrinterClaims$Order$6" "val$kind" "I") ∈ lw_all := lw_g (lw_at lw_m9 54 rfl) rfl
theorem q2073 : (Jvm.Cond.soleField "PrinterClaims$Order$6" "val$kind") ∈ lw_all := lw_g (lw_at lw_m9 55 rfl) rfl
theorem q2074 : (Jvm.Cond.laysFinal "PrinterClaims$Order$6" "PrinterClaims$KindOrder" "orderKind" "I") ∈ lw_all := lw_g (lw_at lw_m9 56 rfl) rfl
theorem q2076 : (Jvm.Cond.laysFinal "PrinterClaims$Order$6" "PrinterClaims$KindOrder" "number" "I") ∈ lw_all := lw_g (lw_at lw_m9 58 rfl) rfl
theorem q2078 : (Jvm.Cond.superclass "PrinterClaims$Order$6" "PrinterClaims$KindOrder") ∈ lw_all := lw_g (lw_at lw_m9 60 rfl) rfl
theorem q2990 : (Jvm.Cond.castable "PrinterClaims$Order$6" "java/lang/Object") ∈ lw_tbl := lw_at lw_m13 12 rfl
theorem in_X25 : ∀ w ∈ wsX250, w ∈ lw_all := lw_in wsX250 [2074, 2076, 2070, 2072] (by decide +kernel) (by decide +kernel)

/-! PrinterClaims$Order$7 -/
set_option maxRecDepth 100000
def RX26 : String := "PrinterClaims$Order$7"
def TX26 : u_T := fun k => match k with
  | 0 => ("PrinterClaims$KindOrder", "orderKind", "I", true)
  | 1 => ("PrinterClaims$KindOrder", "number", "I", true)
  | 2 => ("PrinterClaims$Order$7", "val$kind", "I", true)
  | _ => ("PrinterClaims$Order$7", "val$count", "I", true)
def tyX26 : Nat → FieldType := fun k => match k with
  | 0 => .int
  | 1 => .int
  | 2 => .int
  | _ => .int
abbrev wsX260 : List Cond := u_ws RX26 TX26 4
theorem nmX26 : ∀ a, a < 4 → ∀ b, b < 4 → a ≠ b → (TX26 a).2.1 ≠ (TX26 b).2.1 := by decide +kernel
theorem tyX26_ok : ∀ k, k < 4 → parseFieldDescriptor (TX26 k).2.2.1 = some (tyX26 k) := by decide +kernel
abbrev cX26_run : ByteArray := prog_13_method_2_code
def yX26_run : MethodName := ⟨RX26, "run", "(LPrinterClaims$State;I)I"⟩
def dkwX26_run_1 : List UInt8 := [180, 0, 1, 92, 46, 42, 180, 0, 7, 100, 79, 43, 180, 0, 34, 42, 180, 0, 1, 46, 172]
abbrev dktX26_run_1 : List UInt8 := dkwX26_run_1 ++ []
def dkwX26_run_0 : List UInt8 := [43, 42, 180, 0, 1, 42, 180, 0, 7, 182, 0, 16, 178, 0, 22, 184, 0, 28, 43, 180, 0, 34, 42]
abbrev dktX26_run_0 : List UInt8 := dkwX26_run_0 ++ dktX26_run_1
theorem dksX26_run_0 : cX26_run.data.toList.drop 0 = dktX26_run_0 := by decide +kernel
theorem dksX26_run_1 : cX26_run.data.toList.drop 23 = dktX26_run_1 := dk_seg dksX26_run_0 23 rfl rfl
theorem dX26_run_0 : decode cX26_run 0 = .ok (.aload_n 1, 1) := dk_43 (dk_at dksX26_run_0 0 rfl rfl)
theorem dX26_run_1 : decode cX26_run 1 = .ok (.aload_n 0, 1) := dk_42 (dk_at dksX26_run_0 1 rfl rfl)
theorem dX26_run_2 : decode cX26_run 2 = .ok (.getfield 1, 3) := dk_180 0 1 (dk_at dksX26_run_0 2 rfl rfl)
theorem dX26_run_5 : decode cX26_run 5 = .ok (.aload_n 0, 1) := dk_42 (dk_at dksX26_run_0 5 rfl rfl)
theorem dX26_run_6 : decode cX26_run 6 = .ok (.getfield 7, 3) := dk_180 0 7 (dk_at dksX26_run_0 6 rfl rfl)
theorem dX26_run_9 : decode cX26_run 9 = .ok (.invokevirtual 16, 3) := dk_182 0 16 (dk_at dksX26_run_0 9 rfl rfl)
theorem dX26_run_12 : decode cX26_run 12 = .ok (.getstatic 22, 3) := dk_178 0 22 (dk_at dksX26_run_0 12 rfl rfl)
theorem dX26_run_15 : decode cX26_run 15 = .ok (.invokestatic 28, 3) := dk_184 0 28 (dk_at dksX26_run_0 15 rfl rfl)
theorem dX26_run_18 : decode cX26_run 18 = .ok (.aload_n 1, 1) := dk_43 (dk_at dksX26_run_0 18 rfl rfl)
theorem dX26_run_19 : decode cX26_run 19 = .ok (.getfield 34, 3) := dk_180 0 34 (dk_at dksX26_run_0 19 rfl rfl)
theorem dX26_run_22 : decode cX26_run 22 = .ok (.aload_n 0, 1) := dk_42 (dk_at dksX26_run_0 22 rfl rfl)
theorem dX26_run_23 : decode cX26_run 23 = .ok (.getfield 1, 3) := dk_180 0 1 (dk_at dksX26_run_1 0 rfl rfl)
theorem dX26_run_26 : decode cX26_run 26 = .ok (.dup2, 1) := dk_92 (dk_at dksX26_run_1 3 rfl rfl)
theorem dX26_run_27 : decode cX26_run 27 = .ok (.iaload, 1) := dk_46 (dk_at dksX26_run_1 4 rfl rfl)
theorem dX26_run_28 : decode cX26_run 28 = .ok (.aload_n 0, 1) := dk_42 (dk_at dksX26_run_1 5 rfl rfl)
theorem dX26_run_29 : decode cX26_run 29 = .ok (.getfield 7, 3) := dk_180 0 7 (dk_at dksX26_run_1 6 rfl rfl)
theorem dX26_run_32 : decode cX26_run 32 = .ok (.isub, 1) := dk_100 (dk_at dksX26_run_1 9 rfl rfl)
theorem dX26_run_33 : decode cX26_run 33 = .ok (.iastore, 1) := dk_79 (dk_at dksX26_run_1 10 rfl rfl)
theorem dX26_run_34 : decode cX26_run 34 = .ok (.aload_n 1, 1) := dk_43 (dk_at dksX26_run_1 11 rfl rfl)
theorem dX26_run_35 : decode cX26_run 35 = .ok (.getfield 34, 3) := dk_180 0 34 (dk_at dksX26_run_1 12 rfl rfl)
theorem dX26_run_38 : decode cX26_run 38 = .ok (.aload_n 0, 1) := dk_42 (dk_at dksX26_run_1 15 rfl rfl)
theorem dX26_run_39 : decode cX26_run 39 = .ok (.getfield 1, 3) := dk_180 0 1 (dk_at dksX26_run_1 16 rfl rfl)
theorem dX26_run_42 : decode cX26_run 42 = .ok (.iaload, 1) := dk_46 (dk_at dksX26_run_1 19 rfl rfl)
theorem dX26_run_43 : decode cX26_run 43 = .ok (.ireturn, 1) := dk_172 (dk_at dksX26_run_1 20 rfl rfl)
abbrev cX26_init : ByteArray := prog_13_method_1_code
def yX26_init : MethodName := ⟨RX26, "<init>", "(IIII)V"⟩
def dkwX26_init_0 : List UInt8 := [42, 29, 181, 0, 1, 42, 21, 4, 181, 0, 7, 42, 27, 28, 183, 0, 10, 177]
abbrev dktX26_init_0 : List UInt8 := dkwX26_init_0 ++ []
theorem dksX26_init_0 : cX26_init.data.toList.drop 0 = dktX26_init_0 := by decide +kernel
theorem dX26_init_0 : decode cX26_init 0 = .ok (.aload_n 0, 1) := dk_42 (dk_at dksX26_init_0 0 rfl rfl)
theorem dX26_init_1 : decode cX26_init 1 = .ok (.iload_n 3, 1) := dk_29 (dk_at dksX26_init_0 1 rfl rfl)
theorem dX26_init_2 : decode cX26_init 2 = .ok (.putfield 1, 3) := dk_181 0 1 (dk_at dksX26_init_0 2 rfl rfl)
theorem dX26_init_5 : decode cX26_init 5 = .ok (.aload_n 0, 1) := dk_42 (dk_at dksX26_init_0 5 rfl rfl)
theorem dX26_init_6 : decode cX26_init 6 = .ok (.iload 4, 2) := dk_21 4 (dk_at dksX26_init_0 6 rfl rfl)
theorem dX26_init_8 : decode cX26_init 8 = .ok (.putfield 7, 3) := dk_181 0 7 (dk_at dksX26_init_0 8 rfl rfl)
theorem dX26_init_11 : decode cX26_init 11 = .ok (.aload_n 0, 1) := dk_42 (dk_at dksX26_init_0 11 rfl rfl)
theorem dX26_init_12 : decode cX26_init 12 = .ok (.iload_n 1, 1) := dk_27 (dk_at dksX26_init_0 12 rfl rfl)
theorem dX26_init_13 : decode cX26_init 13 = .ok (.iload_n 2, 1) := dk_28 (dk_at dksX26_init_0 13 rfl rfl)
theorem dX26_init_14 : decode cX26_init 14 = .ok (.invokespecial 10, 3) := dk_183 0 10 (dk_at dksX26_init_0 14 rfl rfl)
theorem dX26_init_17 : decode cX26_init 17 = .ok (.return_, 1) := dk_177 (dk_at dksX26_init_0 17 rfl rfl)
theorem q152 : (Jvm.Cond.initialized "PrinterClaims$Order$7") ∈ lw_all := lw_g (lw_at lw_m1 54 rfl) rfl
theorem q543 : (Jvm.Cond.fieldLinkNest "PrinterClaims$Order$7" (34 : Nat) "PrinterClaims$State" "totals" "[I" "PrinterClaims") ∈ lw_tbl := lw_at lw_m2 205 rfl
theorem q657 : (Jvm.Cond.selects "PrinterClaims$Order$7" ({ cls := "java/lang/Object", name := "getClass", desc := "()Ljava/lang/Class;" } : Jvm.MethodName) ({ cls := "java/lang/Object", name := "getClass", desc := "()Ljava/lang/Class;" } : Jvm.MethodName)) ∈ lw_all := lw_g (lw_at lw_m3 79 rfl) rfl
theorem q1865 : (Jvm.Cond.selects "PrinterClaims$Order$7" ({ cls := "PrinterClaims$KindOrder", name := "run", desc := "(LPrinterClaims$State;I)I" } : Jvm.MethodName) ({ cls := "PrinterClaims$Order$7", name := "run", desc := "(LPrinterClaims$State;I)I" } : Jvm.MethodName)) ∈ lw_all := lw_g (lw_at lw_m8 87 rfl) rfl
theorem q1866 : (Jvm.Cond.instanceMethod ({ cls := "PrinterClaims$Order$7", name := "run", desc := "(LPrinterClaims$State;I)I" } : Jvm.MethodName)) ∈ lw_all := lw_g (lw_at lw_m8 88 rfl) rfl
theorem q1867 : (Jvm.Cond.code ({ cls := "PrinterClaims$Order$7", name := "run", desc := "(LPrinterClaims$State;I)I" } : Jvm.MethodName) prog_13_method_2_code (3 : Nat) (Option.some Jvm.ClassFile.FieldType.int)) ∈ lw_all := lw_g (lw_at lw_m8 89 rfl) rfl
theorem q1868 : (Jvm.Cond.methodLink "PrinterClaims$Order$7" (16 : Nat) ({ cls := "PrinterClaims$State", name := "canRetire", desc := "(II)Z" } : Jvm.MethodName)) ∈ lw_all := lw_g (lw_at lw_m8 90 rfl) rfl
theorem q1869 : (Jvm.Cond.fieldLink "PrinterClaims$Order$7" (22 : Nat) "PrinterClaims$Reason" "STATE" "LPrinterClaims$Reason;") ∈ lw_all := lw_g (lw_at lw_m8 91 rfl) rfl
theorem q1870 : (Jvm.Cond.methodLinkNest "PrinterClaims$Order$7" (28 : Nat) ({ cls := "PrinterClaims", name := "need", desc := "(ZLPrinterClaims$Reason;)V" } : Jvm.MethodName) "PrinterClaims") ∈ lw_tbl := lw_at lw_m8 92 rfl
theorem q1871 : (Jvm.Cond.castable "PrinterClaims$Order$7" "PrinterClaims$Order") ∈ lw_tbl := lw_at lw_m8 93 rfl
theorem q1872 : (Jvm.Cond.selects "PrinterClaims$Order$7" ({ cls := "PrinterClaims$Order", name := "run", desc := "(LPrinterClaims$State;)I" } : Jvm.MethodName) ({ cls := "PrinterClaims$KindOrder", name := "run", desc := "(LPrinterClaims$State;)I" } : Jvm.MethodName)) ∈ lw_all := lw_g (lw_at lw_m8 94 rfl) rfl
theorem q1873 : (Jvm.Cond.unhidden "PrinterClaims$Order$7" "run" "(LPrinterClaims$State;)I") ∈ lw_tbl := lw_at lw_m8 95 rfl
theorem q2090 : (Jvm.Cond.instantiable "PrinterClaims$Order$7" (4 : Nat)) ∈ lw_all := lw_g (lw_at lw_m9 72 rfl) rfl
theorem q2092 : (Jvm.Cond.instanceMethod ({ cls := "PrinterClaims$Order$7", name := "<init>", desc := "(IIII)V" } : Jvm.MethodName)) ∈ lw_all := lw_g (lw_at lw_m9 74 rfl) rfl
theorem q2093 : (Jvm.Cond.code ({ cls := "PrinterClaims$Order$7", name := "<init>", desc := "(IIII)V" } : Jvm.MethodName) prog_13_method_1_code (5 : Nat) (Option.none : Option Jvm.ClassFile.FieldType)) ∈ lw_all := lw_g (lw_at lw_m9 75 rfl) rfl
theorem q2094 : (Jvm.Cond.methodLink "PrinterClaims$Order$7" (10 : Nat) ({ cls := "PrinterClaims$KindOrder", name := "<init>", desc := "(II)V" } : Jvm.MethodName)) ∈ lw_all := lw_g (lw_at lw_m9 76 rfl) rfl
theorem q2095 : (Jvm.Cond.fieldLink "PrinterClaims$Order$7" (1 : Nat) "PrinterClaims$Order$7" "val$kind" "I") ∈ lw_all := lw_g (lw_at lw_m9 77 rfl) rfl
theorem q2096 : (Jvm.Cond.fieldLink "PrinterClaims$Order$7" (7 : Nat) "PrinterClaims$Order$7" "val$count" "I") ∈ lw_all := lw_g (lw_at lw_m9 78 rfl) rfl
theorem q2097 : (Jvm.Cond.laysFinal "PrinterClaims$Order$7" "PrinterClaims$Order$7" "val$kind" "I") ∈ lw_all := lw_g (lw_at lw_m9 79 rfl) rfl
theorem q2098 : (Jvm.Cond.soleField "PrinterClaims$Order$7" "val$kind") ∈ lw_all := lw_g (lw_at lw_m9 80 rfl) rfl
theorem q2099 : (Jvm.Cond.laysFinal "PrinterClaims$Order$7" "PrinterClaims$Order$7" "val$count" "I") ∈ lw_all := lw_g (lw_at lw_m9 81 rfl) rfl
theorem q2100 : (Jvm.Cond.soleField "PrinterClaims$Order$7" "val$count") ∈ lw_all := lw_g (lw_at lw_m9 82 rfl) rfl
theorem q2101 : (Jvm.Cond.laysFinal "PrinterClaims$Order$7" "PrinterClaims$KindOrder" "orderKind" "I") ∈ lw_all := lw_g (lw_at lw_m9 83 rfl) rfl
theorem q2102 : (Jvm.Cond.laysFinal "PrinterClaims$Order$7" "PrinterClaims$KindOrder" "number" "I") ∈ lw_all := lw_g (lw_at lw_m9 84 rfl) rfl
theorem q2103 : (Jvm.Cond.superclass "PrinterClaims$Order$7" "PrinterClaims$KindOrder") ∈ lw_all := lw_g (lw_at lw_m9 85 rfl) rfl
theorem q2991 : (Jvm.Cond.castable "PrinterClaims$Order$7" "java/lang/Object") ∈ lw_tbl := lw_at lw_m13 13 rfl
theorem in_X26 : ∀ w ∈ wsX260, w ∈ lw_all := lw_in wsX260 [2101, 2102, 2097, 2099] (by decide +kernel) (by decide +kernel)

/-! PrinterClaims$Script -/
set_option maxRecDepth 100000
def RX27 : String := "PrinterClaims$Script"
def TX27 : u_T := fun k => match k with
  | 0 => ("PrinterClaims$Scanner", "text", "[B", true)
  | 1 => ("PrinterClaims$Scanner", "end", "I", true)
  | 2 => ("PrinterClaims$Scanner", "begin", "I", false)
  | 3 => ("PrinterClaims$Scanner", "next", "I", false)
  | 4 => ("PrinterClaims$Scanner", "value", "I", false)
  | 5 => ("PrinterClaims$Scanner", "kind", "I", false)
  | 6 => ("PrinterClaims$Scanner", "word", "Ljava/lang/String;", false)
  | _ => ("PrinterClaims$Script", "orders", "Ljava/util/List;", true)
def tyX27 : Nat → FieldType := fun k => match k with
  | 0 => .array .byte
  | 1 => .int
  | 2 => .int
  | 3 => .int
  | 4 => .int
  | 5 => .int
  | 6 => .object "java/lang/String"
  | _ => .object "java/util/List"
abbrev wsX270 : List Cond := u_ws RX27 TX27 8
theorem nmX27 : ∀ a, a < 8 → ∀ b, b < 8 → a ≠ b → (TX27 a).2.1 ≠ (TX27 b).2.1 := by decide +kernel
theorem tyX27_ok : ∀ k, k < 8 → parseFieldDescriptor (TX27 k).2.2.1 = some (tyX27 k) := by decide +kernel
abbrev cX27_init : ByteArray := prog_23_method_1_code
def yX27_init : MethodName := ⟨RX27, "<init>", "([BI)V"⟩
def dkwX27_init_0 : List UInt8 := [42, 43, 28, 183, 0, 3, 42, 187, 0, 9, 89, 16, 20, 183, 0, 11, 181, 0, 14, 177]
abbrev dktX27_init_0 : List UInt8 := dkwX27_init_0 ++ []
theorem dksX27_init_0 : cX27_init.data.toList.drop 0 = dktX27_init_0 := by decide +kernel
theorem dX27_init_0 : decode cX27_init 0 = .ok (.aload_n 0, 1) := dk_42 (dk_at dksX27_init_0 0 rfl rfl)
theorem dX27_init_1 : decode cX27_init 1 = .ok (.aload_n 1, 1) := dk_43 (dk_at dksX27_init_0 1 rfl rfl)
theorem dX27_init_2 : decode cX27_init 2 = .ok (.iload_n 2, 1) := dk_28 (dk_at dksX27_init_0 2 rfl rfl)
theorem dX27_init_3 : decode cX27_init 3 = .ok (.invokespecial 3, 3) := dk_183 0 3 (dk_at dksX27_init_0 3 rfl rfl)
theorem dX27_init_6 : decode cX27_init 6 = .ok (.aload_n 0, 1) := dk_42 (dk_at dksX27_init_0 6 rfl rfl)
theorem dX27_init_7 : decode cX27_init 7 = .ok (.new 9, 3) := dk_187 0 9 (dk_at dksX27_init_0 7 rfl rfl)
theorem dX27_init_10 : decode cX27_init 10 = .ok (.dup, 1) := dk_89 (dk_at dksX27_init_0 10 rfl rfl)
theorem dX27_init_11 : decode cX27_init 11 = .ok (.bipush 20, 2) := dk_16 20 (dk_at dksX27_init_0 11 rfl rfl)
theorem dX27_init_13 : decode cX27_init 13 = .ok (.invokespecial 11, 3) := dk_183 0 11 (dk_at dksX27_init_0 13 rfl rfl)
theorem dX27_init_16 : decode cX27_init 16 = .ok (.putfield 14, 3) := dk_181 0 14 (dk_at dksX27_init_0 16 rfl rfl)
theorem dX27_init_19 : decode cX27_init 19 = .ok (.return_, 1) := dk_177 (dk_at dksX27_init_0 19 rfl rfl)
abbrev cX27_read : ByteArray := prog_23_method_2_code
def yX27_read : MethodName := ⟨RX27, "read", "()Ljava/util/List;"⟩
def dkwX27_read_3 : List UInt8 := [167, 255, 190, 42, 180, 0, 14, 176]
abbrev dktX27_read_3 : List UInt8 := dkwX27_read_3 ++ []
def dkwX27_read_2 : List UInt8 := [182, 0, 45, 42, 180, 0, 14, 42, 43, 182, 0, 49, 185, 0, 53, 2, 0, 87, 42, 182, 0, 57]
abbrev dktX27_read_2 : List UInt8 := dkwX27_read_2 ++ dktX27_read_3
def dkwX27_read_1 : List UInt8 := [180, 0, 14, 185, 0, 36, 1, 0, 16, 20, 162, 0, 7, 4, 167, 0, 4, 3, 182, 0, 42, 42]
abbrev dktX27_read_1 : List UInt8 := dkwX27_read_1 ++ dktX27_read_2
def dkwX27_read_0 : List UInt8 := [42, 180, 0, 20, 153, 0, 65, 42, 180, 0, 24, 76, 42, 43, 184, 0, 28, 182, 0, 32, 42, 42]
abbrev dktX27_read_0 : List UInt8 := dkwX27_read_0 ++ dktX27_read_1
theorem dksX27_read_0 : cX27_read.data.toList.drop 0 = dktX27_read_0 := by decide +kernel
theorem dksX27_read_1 : cX27_read.data.toList.drop 22 = dktX27_read_1 := dk_seg dksX27_read_0 22 rfl rfl
theorem dksX27_read_2 : cX27_read.data.toList.drop 44 = dktX27_read_2 := dk_seg dksX27_read_1 22 rfl rfl
theorem dksX27_read_3 : cX27_read.data.toList.drop 66 = dktX27_read_3 := dk_seg dksX27_read_2 22 rfl rfl
theorem dX27_read_0 : decode cX27_read 0 = .ok (.aload_n 0, 1) := dk_42 (dk_at dksX27_read_0 0 rfl rfl)
theorem dX27_read_1 : decode cX27_read 1 = .ok (.getfield 20, 3) := dk_180 0 20 (dk_at dksX27_read_0 1 rfl rfl)
theorem dX27_read_4 : decode cX27_read 4 = .ok (.ifCond .eq 65, 3) := dk_153 0 65 (dk_at dksX27_read_0 4 rfl rfl)
theorem dX27_read_7 : decode cX27_read 7 = .ok (.aload_n 0, 1) := dk_42 (dk_at dksX27_read_0 7 rfl rfl)
theorem dX27_read_8 : decode cX27_read 8 = .ok (.getfield 24, 3) := dk_180 0 24 (dk_at dksX27_read_0 8 rfl rfl)
theorem dX27_read_11 : decode cX27_read 11 = .ok (.astore_n 1, 1) := dk_76 (dk_at dksX27_read_0 11 rfl rfl)
theorem dX27_read_12 : decode cX27_read 12 = .ok (.aload_n 0, 1) := dk_42 (dk_at dksX27_read_0 12 rfl rfl)
theorem dX27_read_13 : decode cX27_read 13 = .ok (.aload_n 1, 1) := dk_43 (dk_at dksX27_read_0 13 rfl rfl)
theorem dX27_read_14 : decode cX27_read 14 = .ok (.invokestatic 28, 3) := dk_184 0 28 (dk_at dksX27_read_0 14 rfl rfl)
theorem dX27_read_17 : decode cX27_read 17 = .ok (.invokevirtual 32, 3) := dk_182 0 32 (dk_at dksX27_read_0 17 rfl rfl)
theorem dX27_read_20 : decode cX27_read 20 = .ok (.aload_n 0, 1) := dk_42 (dk_at dksX27_read_0 20 rfl rfl)
theorem dX27_read_21 : decode cX27_read 21 = .ok (.aload_n 0, 1) := dk_42 (dk_at dksX27_read_0 21 rfl rfl)
theorem dX27_read_22 : decode cX27_read 22 = .ok (.getfield 14, 3) := dk_180 0 14 (dk_at dksX27_read_1 0 rfl rfl)
theorem dX27_read_25 : decode cX27_read 25 = .ok (.invokeinterface 36 1, 5) := by decide +kernel
theorem dX27_read_30 : decode cX27_read 30 = .ok (.bipush 20, 2) := dk_16 20 (dk_at dksX27_read_1 8 rfl rfl)
theorem dX27_read_32 : decode cX27_read 32 = .ok (.if_icmp .ge 7, 3) := dk_162 0 7 (dk_at dksX27_read_1 10 rfl rfl)
theorem dX27_read_35 : decode cX27_read 35 = .ok (.iconst 1, 1) := dk_4 (dk_at dksX27_read_1 13 rfl rfl)
theorem dX27_read_36 : decode cX27_read 36 = .ok (.goto 4, 3) := dk_167 0 4 (dk_at dksX27_read_1 14 rfl rfl)
theorem dX27_read_39 : decode cX27_read 39 = .ok (.iconst 0, 1) := dk_3 (dk_at dksX27_read_1 17 rfl rfl)
theorem dX27_read_40 : decode cX27_read 40 = .ok (.invokevirtual 42, 3) := dk_182 0 42 (dk_at dksX27_read_1 18 rfl rfl)
theorem dX27_read_43 : decode cX27_read 43 = .ok (.aload_n 0, 1) := dk_42 (dk_at dksX27_read_1 21 rfl rfl)
theorem dX27_read_44 : decode cX27_read 44 = .ok (.invokevirtual 45, 3) := dk_182 0 45 (dk_at dksX27_read_2 0 rfl rfl)
theorem dX27_read_47 : decode cX27_read 47 = .ok (.aload_n 0, 1) := dk_42 (dk_at dksX27_read_2 3 rfl rfl)
theorem dX27_read_48 : decode cX27_read 48 = .ok (.getfield 14, 3) := dk_180 0 14 (dk_at dksX27_read_2 4 rfl rfl)
theorem dX27_read_51 : decode cX27_read 51 = .ok (.aload_n 0, 1) := dk_42 (dk_at dksX27_read_2 7 rfl rfl)
theorem dX27_read_52 : decode cX27_read 52 = .ok (.aload_n 1, 1) := dk_43 (dk_at dksX27_read_2 8 rfl rfl)
theorem dX27_read_53 : decode cX27_read 53 = .ok (.invokevirtual 49, 3) := dk_182 0 49 (dk_at dksX27_read_2 9 rfl rfl)
theorem dX27_read_56 : decode cX27_read 56 = .ok (.invokeinterface 53 2, 5) := by decide +kernel
theorem dX27_read_61 : decode cX27_read 61 = .ok (.pop, 1) := dk_87 (dk_at dksX27_read_2 17 rfl rfl)
theorem dX27_read_62 : decode cX27_read 62 = .ok (.aload_n 0, 1) := dk_42 (dk_at dksX27_read_2 18 rfl rfl)
theorem dX27_read_63 : decode cX27_read 63 = .ok (.invokevirtual 57, 3) := dk_182 0 57 (dk_at dksX27_read_2 19 rfl rfl)
theorem dX27_read_66 : decode cX27_read 66 = .ok (.goto (-66), 3) := dk_167 255 190 (dk_at dksX27_read_3 0 rfl rfl)
theorem dX27_read_69 : decode cX27_read 69 = .ok (.aload_n 0, 1) := dk_42 (dk_at dksX27_read_3 3 rfl rfl)
theorem dX27_read_70 : decode cX27_read 70 = .ok (.getfield 14, 3) := dk_180 0 14 (dk_at dksX27_read_3 4 rfl rfl)
theorem dX27_read_73 : decode cX27_read 73 = .ok (.areturn, 1) := dk_176 (dk_at dksX27_read_3 7 rfl rfl)
abbrev cX27_isCommand : ByteArray := prog_23_method_3_code
def yX27_isCommand : MethodName := ⟨RX27, "isCommand", "(Ljava/lang/String;)Z"⟩
def dkwX27_isCommand_8 : List UInt8 := [4, 167, 0, 4, 3, 172]
abbrev dktX27_isCommand_8 : List UInt8 := dkwX27_isCommand_8 ++ []
def dkwX27_isCommand_7 : List UInt8 := [170, 0, 0, 0, 0, 0, 47, 0, 0, 0, 0, 0, 0, 0, 6, 0, 0, 0, 43, 0, 0, 0, 43, 0, 0, 0, 43, 0, 0, 0, 43, 0, 0, 0, 43, 0, 0, 0, 43, 0, 0, 0, 43]
abbrev dktX27_isCommand_7 : List UInt8 := dkwX27_isCommand_7 ++ dktX27_isCommand_8
def dkwX27_isCommand_6 : List UInt8 := [61, 28]
abbrev dktX27_isCommand_6 : List UInt8 := dkwX27_isCommand_6 ++ dktX27_isCommand_7
def dkwX27_isCommand_5 : List UInt8 := [18, 78, 182, 0, 67, 153, 0, 20, 8, 61, 167, 0, 15, 43, 18, 79, 182, 0, 67, 153, 0, 6, 16, 6]
abbrev dktX27_isCommand_5 : List UInt8 := dkwX27_isCommand_5 ++ dktX27_isCommand_6
def dkwX27_isCommand_4 : List UInt8 := [153, 0, 48, 6, 61, 167, 0, 43, 43, 18, 76, 182, 0, 67, 153, 0, 34, 7, 61, 167, 0, 29, 43]
abbrev dktX27_isCommand_4 : List UInt8 := dkwX27_isCommand_4 ++ dktX27_isCommand_5
def dkwX27_isCommand_3 : List UInt8 := [61, 167, 0, 71, 43, 18, 72, 182, 0, 67, 153, 0, 62, 5, 61, 167, 0, 57, 43, 18, 74, 182, 0, 67]
abbrev dktX27_isCommand_3 : List UInt8 := dkwX27_isCommand_3 ++ dktX27_isCommand_4
def dkwX27_isCommand_2 : List UInt8 := [43, 18, 65, 182, 0, 67, 153, 0, 90, 3, 61, 167, 0, 85, 43, 18, 70, 182, 0, 67, 153, 0, 76, 4]
abbrev dktX27_isCommand_2 : List UInt8 := dkwX27_isCommand_2 ++ dktX27_isCommand_3
def dkwX27_isCommand_1 : List UInt8 := [171, 0, 0, 0, 0, 0, 0, 164, 0, 0, 0, 7, 180, 9, 140, 147, 0, 0, 0, 96, 199, 245, 11, 10, 0, 0, 0, 110, 200, 78, 16, 27, 0, 0, 0, 152, 0, 1, 120, 161, 0, 0, 0, 138, 5, 165, 168, 60, 0, 0, 0, 124, 65, 1, 40, 7, 0, 0, 0, 82, 65, 78, 242, 143, 0, 0, 0, 68]
abbrev dktX27_isCommand_1 : List UInt8 := dkwX27_isCommand_1 ++ dktX27_isCommand_2
def dkwX27_isCommand_0 : List UInt8 := [42, 76, 2, 61, 43, 182, 0, 60]
abbrev dktX27_isCommand_0 : List UInt8 := dkwX27_isCommand_0 ++ dktX27_isCommand_1
theorem dksX27_isCommand_0 : cX27_isCommand.data.toList.drop 0 = dktX27_isCommand_0 := by decide +kernel
theorem dksX27_isCommand_1 : cX27_isCommand.data.toList.drop 8 = dktX27_isCommand_1 := dk_seg dksX27_isCommand_0 8 rfl rfl
theorem dksX27_isCommand_2 : cX27_isCommand.data.toList.drop 76 = dktX27_isCommand_2 := dk_seg dksX27_isCommand_1 68 rfl rfl
theorem dksX27_isCommand_3 : cX27_isCommand.data.toList.drop 100 = dktX27_isCommand_3 := dk_seg dksX27_isCommand_2 24 rfl rfl
theorem dksX27_isCommand_4 : cX27_isCommand.data.toList.drop 124 = dktX27_isCommand_4 := dk_seg dksX27_isCommand_3 24 rfl rfl
theorem dksX27_isCommand_5 : cX27_isCommand.data.toList.drop 147 = dktX27_isCommand_5 := dk_seg dksX27_isCommand_4 23 rfl rfl
theorem dksX27_isCommand_6 : cX27_isCommand.data.toList.drop 171 = dktX27_isCommand_6 := dk_seg dksX27_isCommand_5 24 rfl rfl
theorem dksX27_isCommand_7 : cX27_isCommand.data.toList.drop 173 = dktX27_isCommand_7 := dk_seg dksX27_isCommand_6 2 rfl rfl
theorem dksX27_isCommand_8 : cX27_isCommand.data.toList.drop 216 = dktX27_isCommand_8 := dk_seg dksX27_isCommand_7 43 rfl rfl
theorem dX27_isCommand_0 : decode cX27_isCommand 0 = .ok (.aload_n 0, 1) := dk_42 (dk_at dksX27_isCommand_0 0 rfl rfl)
theorem dX27_isCommand_1 : decode cX27_isCommand 1 = .ok (.astore_n 1, 1) := dk_76 (dk_at dksX27_isCommand_0 1 rfl rfl)
theorem dX27_isCommand_2 : decode cX27_isCommand 2 = .ok (.iconst (-1), 1) := dk_2 (dk_at dksX27_isCommand_0 2 rfl rfl)
theorem dX27_isCommand_3 : decode cX27_isCommand 3 = .ok (.istore_n 2, 1) := dk_61 (dk_at dksX27_isCommand_0 3 rfl rfl)
theorem dX27_isCommand_4 : decode cX27_isCommand 4 = .ok (.aload_n 1, 1) := dk_43 (dk_at dksX27_isCommand_0 4 rfl rfl)
theorem dX27_isCommand_5 : decode cX27_isCommand 5 = .ok (.invokevirtual 60, 3) := dk_182 0 60 (dk_at dksX27_isCommand_0 5 rfl rfl)
theorem dX27_isCommand_8 : decode cX27_isCommand 8 = .ok (.lookupswitch 164 #[(-1274442605, 96), (-940242166, 110), (-934408165, 152), (96417, 138), (94742588, 124), (1090594823, 82), (1095692943, 68)], 68) := by decide +kernel
theorem dX27_isCommand_76 : decode cX27_isCommand 76 = .ok (.aload_n 1, 1) := dk_43 (dk_at dksX27_isCommand_2 0 rfl rfl)
theorem dX27_isCommand_77 : decode cX27_isCommand 77 = .ok (.ldc 65, 2) := dk_18 65 (dk_at dksX27_isCommand_2 1 rfl rfl)
theorem dX27_isCommand_79 : decode cX27_isCommand 79 = .ok (.invokevirtual 67, 3) := dk_182 0 67 (dk_at dksX27_isCommand_2 3 rfl rfl)
theorem dX27_isCommand_82 : decode cX27_isCommand 82 = .ok (.ifCond .eq 90, 3) := dk_153 0 90 (dk_at dksX27_isCommand_2 6 rfl rfl)
theorem dX27_isCommand_85 : decode cX27_isCommand 85 = .ok (.iconst 0, 1) := dk_3 (dk_at dksX27_isCommand_2 9 rfl rfl)
theorem dX27_isCommand_86 : decode cX27_isCommand 86 = .ok (.istore_n 2, 1) := dk_61 (dk_at dksX27_isCommand_2 10 rfl rfl)
theorem dX27_isCommand_87 : decode cX27_isCommand 87 = .ok (.goto 85, 3) := dk_167 0 85 (dk_at dksX27_isCommand_2 11 rfl rfl)
theorem dX27_isCommand_90 : decode cX27_isCommand 90 = .ok (.aload_n 1, 1) := dk_43 (dk_at dksX27_isCommand_2 14 rfl rfl)
theorem dX27_isCommand_91 : decode cX27_isCommand 91 = .ok (.ldc 70, 2) := dk_18 70 (dk_at dksX27_isCommand_2 15 rfl rfl)
theorem dX27_isCommand_93 : decode cX27_isCommand 93 = .ok (.invokevirtual 67, 3) := dk_182 0 67 (dk_at dksX27_isCommand_2 17 rfl rfl)
theorem dX27_isCommand_96 : decode cX27_isCommand 96 = .ok (.ifCond .eq 76, 3) := dk_153 0 76 (dk_at dksX27_isCommand_2 20 rfl rfl)
theorem dX27_isCommand_99 : decode cX27_isCommand 99 = .ok (.iconst 1, 1) := dk_4 (dk_at dksX27_isCommand_2 23 rfl rfl)
theorem dX27_isCommand_100 : decode cX27_isCommand 100 = .ok (.istore_n 2, 1) := dk_61 (dk_at dksX27_isCommand_3 0 rfl rfl)
theorem dX27_isCommand_101 : decode cX27_isCommand 101 = .ok (.goto 71, 3) := dk_167 0 71 (dk_at dksX27_isCommand_3 1 rfl rfl)
theorem dX27_isCommand_104 : decode cX27_isCommand 104 = .ok (.aload_n 1, 1) := dk_43 (dk_at dksX27_isCommand_3 4 rfl rfl)
theorem dX27_isCommand_105 : decode cX27_isCommand 105 = .ok (.ldc 72, 2) := dk_18 72 (dk_at dksX27_isCommand_3 5 rfl rfl)
theorem dX27_isCommand_107 : decode cX27_isCommand 107 = .ok (.invokevirtual 67, 3) := dk_182 0 67 (dk_at dksX27_isCommand_3 7 rfl rfl)
theorem dX27_isCommand_110 : decode cX27_isCommand 110 = .ok (.ifCond .eq 62, 3) := dk_153 0 62 (dk_at dksX27_isCommand_3 10 rfl rfl)
theorem dX27_isCommand_113 : decode cX27_isCommand 113 = .ok (.iconst 2, 1) := dk_5 (dk_at dksX27_isCommand_3 13 rfl rfl)
theorem dX27_isCommand_114 : decode cX27_isCommand 114 = .ok (.istore_n 2, 1) := dk_61 (dk_at dksX27_isCommand_3 14 rfl rfl)
theorem dX27_isCommand_115 : decode cX27_isCommand 115 = .ok (.goto 57, 3) := dk_167 0 57 (dk_at dksX27_isCommand_3 15 rfl rfl)
theorem dX27_isCommand_118 : decode cX27_isCommand 118 = .ok (.aload_n 1, 1) := dk_43 (dk_at dksX27_isCommand_3 18 rfl rfl)
theorem dX27_isCommand_119 : decode cX27_isCommand 119 = .ok (.ldc 74, 2) := dk_18 74 (dk_at dksX27_isCommand_3 19 rfl rfl)
theorem dX27_isCommand_121 : decode cX27_isCommand 121 = .ok (.invokevirtual 67, 3) := dk_182 0 67 (dk_at dksX27_isCommand_3 21 rfl rfl)
theorem dX27_isCommand_124 : decode cX27_isCommand 124 = .ok (.ifCond .eq 48, 3) := dk_153 0 48 (dk_at dksX27_isCommand_4 0 rfl rfl)
theorem dX27_isCommand_127 : decode cX27_isCommand 127 = .ok (.iconst 3, 1) := dk_6 (dk_at dksX27_isCommand_4 3 rfl rfl)
theorem dX27_isCommand_128 : decode cX27_isCommand 128 = .ok (.istore_n 2, 1) := dk_61 (dk_at dksX27_isCommand_4 4 rfl rfl)
theorem dX27_isCommand_129 : decode cX27_isCommand 129 = .ok (.goto 43, 3) := dk_167 0 43 (dk_at dksX27_isCommand_4 5 rfl rfl)
theorem dX27_isCommand_132 : decode cX27_isCommand 132 = .ok (.aload_n 1, 1) := dk_43 (dk_at dksX27_isCommand_4 8 rfl rfl)
theorem dX27_isCommand_133 : decode cX27_isCommand 133 = .ok (.ldc 76, 2) := dk_18 76 (dk_at dksX27_isCommand_4 9 rfl rfl)
theorem dX27_isCommand_135 : decode cX27_isCommand 135 = .ok (.invokevirtual 67, 3) := dk_182 0 67 (dk_at dksX27_isCommand_4 11 rfl rfl)
theorem dX27_isCommand_138 : decode cX27_isCommand 138 = .ok (.ifCond .eq 34, 3) := dk_153 0 34 (dk_at dksX27_isCommand_4 14 rfl rfl)
theorem dX27_isCommand_141 : decode cX27_isCommand 141 = .ok (.iconst 4, 1) := dk_7 (dk_at dksX27_isCommand_4 17 rfl rfl)
theorem dX27_isCommand_142 : decode cX27_isCommand 142 = .ok (.istore_n 2, 1) := dk_61 (dk_at dksX27_isCommand_4 18 rfl rfl)
theorem dX27_isCommand_143 : decode cX27_isCommand 143 = .ok (.goto 29, 3) := dk_167 0 29 (dk_at dksX27_isCommand_4 19 rfl rfl)
theorem dX27_isCommand_146 : decode cX27_isCommand 146 = .ok (.aload_n 1, 1) := dk_43 (dk_at dksX27_isCommand_4 22 rfl rfl)
theorem dX27_isCommand_147 : decode cX27_isCommand 147 = .ok (.ldc 78, 2) := dk_18 78 (dk_at dksX27_isCommand_5 0 rfl rfl)
theorem dX27_isCommand_149 : decode cX27_isCommand 149 = .ok (.invokevirtual 67, 3) := dk_182 0 67 (dk_at dksX27_isCommand_5 2 rfl rfl)
theorem dX27_isCommand_152 : decode cX27_isCommand 152 = .ok (.ifCond .eq 20, 3) := dk_153 0 20 (dk_at dksX27_isCommand_5 5 rfl rfl)
theorem dX27_isCommand_155 : decode cX27_isCommand 155 = .ok (.iconst 5, 1) := dk_8 (dk_at dksX27_isCommand_5 8 rfl rfl)
theorem dX27_isCommand_156 : decode cX27_isCommand 156 = .ok (.istore_n 2, 1) := dk_61 (dk_at dksX27_isCommand_5 9 rfl rfl)
theorem dX27_isCommand_157 : decode cX27_isCommand 157 = .ok (.goto 15, 3) := dk_167 0 15 (dk_at dksX27_isCommand_5 10 rfl rfl)
theorem dX27_isCommand_160 : decode cX27_isCommand 160 = .ok (.aload_n 1, 1) := dk_43 (dk_at dksX27_isCommand_5 13 rfl rfl)
theorem dX27_isCommand_161 : decode cX27_isCommand 161 = .ok (.ldc 79, 2) := dk_18 79 (dk_at dksX27_isCommand_5 14 rfl rfl)
theorem dX27_isCommand_163 : decode cX27_isCommand 163 = .ok (.invokevirtual 67, 3) := dk_182 0 67 (dk_at dksX27_isCommand_5 16 rfl rfl)
theorem dX27_isCommand_166 : decode cX27_isCommand 166 = .ok (.ifCond .eq 6, 3) := dk_153 0 6 (dk_at dksX27_isCommand_5 19 rfl rfl)
theorem dX27_isCommand_169 : decode cX27_isCommand 169 = .ok (.bipush 6, 2) := dk_16 6 (dk_at dksX27_isCommand_5 22 rfl rfl)
theorem dX27_isCommand_171 : decode cX27_isCommand 171 = .ok (.istore_n 2, 1) := dk_61 (dk_at dksX27_isCommand_6 0 rfl rfl)
theorem dX27_isCommand_172 : decode cX27_isCommand 172 = .ok (.iload_n 2, 1) := dk_28 (dk_at dksX27_isCommand_6 1 rfl rfl)
theorem dX27_isCommand_173 : decode cX27_isCommand 173 = .ok (.tableswitch 47 0 6 #[43, 43, 43, 43, 43, 43, 43], 43) := by decide +kernel
theorem dX27_isCommand_216 : decode cX27_isCommand 216 = .ok (.iconst 1, 1) := dk_4 (dk_at dksX27_isCommand_8 0 rfl rfl)
theorem dX27_isCommand_217 : decode cX27_isCommand 217 = .ok (.goto 4, 3) := dk_167 0 4 (dk_at dksX27_isCommand_8 1 rfl rfl)
theorem dX27_isCommand_220 : decode cX27_isCommand 220 = .ok (.iconst 0, 1) := dk_3 (dk_at dksX27_isCommand_8 4 rfl rfl)
theorem dX27_isCommand_221 : decode cX27_isCommand 221 = .ok (.ireturn, 1) := dk_172 (dk_at dksX27_isCommand_8 5 rfl rfl)
abbrev cX27_order : ByteArray := prog_23_method_7_code
def yX27_order : MethodName := ⟨RX27, "order", "(Ljava/lang/String;)LPrinterClaims$Order;"⟩
def dkwX27_order_11 : List UInt8 := [42, 182, 0, 91, 184, 0, 117, 176]
abbrev dktX27_order_11 : List UInt8 := dkwX27_order_11 ++ []
def dkwX27_order_10 : List UInt8 := [184, 0, 110, 167, 0, 28, 42, 182, 0, 88, 42, 182, 0, 91, 184, 0, 113, 167, 0, 14, 42, 182, 0, 88]
abbrev dktX27_order_10 : List UInt8 := dkwX27_order_10 ++ dktX27_order_11
def dkwX27_order_9 : List UInt8 := [182, 0, 85, 184, 0, 107, 167, 0, 49, 42, 182, 0, 85, 42, 182, 0, 88, 42, 3, 16, 40, 182, 0, 81]
abbrev dktX27_order_9 : List UInt8 := dkwX27_order_9 ++ dktX27_order_10
def dkwX27_order_8 : List UInt8 := [182, 0, 88, 42, 182, 0, 91, 184, 0, 100, 167, 0, 69, 42, 182, 0, 85, 184, 0, 103, 167, 0, 59, 42]
abbrev dktX27_order_8 : List UInt8 := dkwX27_order_8 ++ dktX27_order_9
def dkwX27_order_7 : List UInt8 := [42, 182, 0, 85, 42, 182, 0, 88, 42, 182, 0, 91, 184, 0, 94, 167, 0, 87, 42, 182, 0, 85, 42]
abbrev dktX27_order_7 : List UInt8 := dkwX27_order_7 ++ dktX27_order_8
def dkwX27_order_6 : List UInt8 := [170, 0, 0, 0, 0, 129, 0, 0, 0, 0, 0, 0, 0, 5, 0, 0, 0, 38, 0, 0, 0, 56, 0, 0, 0, 74, 0, 0, 0, 84, 0, 0, 0, 94, 0, 0, 0, 115]
abbrev dktX27_order_6 : List UInt8 := dkwX27_order_6 ++ dktX27_order_7
def dkwX27_order_5 : List UInt8 := [18, 78, 182, 0, 67, 153, 0, 5, 8, 62, 29]
abbrev dktX27_order_5 : List UInt8 := dkwX27_order_5 ++ dktX27_order_6
def dkwX27_order_4 : List UInt8 := [153, 0, 33, 6, 62, 167, 0, 28, 44, 18, 76, 182, 0, 67, 153, 0, 19, 7, 62, 167, 0, 14, 44]
abbrev dktX27_order_4 : List UInt8 := dkwX27_order_4 ++ dktX27_order_5
def dkwX27_order_3 : List UInt8 := [62, 167, 0, 56, 44, 18, 72, 182, 0, 67, 153, 0, 47, 5, 62, 167, 0, 42, 44, 18, 74, 182, 0, 67]
abbrev dktX27_order_3 : List UInt8 := dkwX27_order_3 ++ dktX27_order_4
def dkwX27_order_2 : List UInt8 := [44, 18, 65, 182, 0, 67, 153, 0, 75, 3, 62, 167, 0, 70, 44, 18, 70, 182, 0, 67, 153, 0, 61, 4]
abbrev dktX27_order_2 : List UInt8 := dkwX27_order_2 ++ dktX27_order_3
def dkwX27_order_1 : List UInt8 := [171, 0, 0, 0, 0, 0, 0, 141, 0, 0, 0, 6, 180, 9, 140, 147, 0, 0, 0, 88, 199, 245, 11, 10, 0, 0, 0, 102, 0, 1, 120, 161, 0, 0, 0, 130, 5, 165, 168, 60, 0, 0, 0, 116, 65, 1, 40, 7, 0, 0, 0, 74, 65, 78, 242, 143, 0, 0, 0, 60]
abbrev dktX27_order_1 : List UInt8 := dkwX27_order_1 ++ dktX27_order_2
def dkwX27_order_0 : List UInt8 := [43, 77, 2, 62, 44, 182, 0, 60]
abbrev dktX27_order_0 : List UInt8 := dkwX27_order_0 ++ dktX27_order_1
theorem dksX27_order_0 : cX27_order.data.toList.drop 0 = dktX27_order_0 := by decide +kernel
theorem dksX27_order_1 : cX27_order.data.toList.drop 8 = dktX27_order_1 := dk_seg dksX27_order_0 8 rfl rfl
theorem dksX27_order_2 : cX27_order.data.toList.drop 68 = dktX27_order_2 := dk_seg dksX27_order_1 60 rfl rfl
theorem dksX27_order_3 : cX27_order.data.toList.drop 92 = dktX27_order_3 := dk_seg dksX27_order_2 24 rfl rfl
theorem dksX27_order_4 : cX27_order.data.toList.drop 116 = dktX27_order_4 := dk_seg dksX27_order_3 24 rfl rfl
theorem dksX27_order_5 : cX27_order.data.toList.drop 139 = dktX27_order_5 := dk_seg dksX27_order_4 23 rfl rfl
theorem dksX27_order_6 : cX27_order.data.toList.drop 150 = dktX27_order_6 := dk_seg dksX27_order_5 11 rfl rfl
theorem dksX27_order_7 : cX27_order.data.toList.drop 188 = dktX27_order_7 := dk_seg dksX27_order_6 38 rfl rfl
theorem dksX27_order_8 : cX27_order.data.toList.drop 211 = dktX27_order_8 := dk_seg dksX27_order_7 23 rfl rfl
theorem dksX27_order_9 : cX27_order.data.toList.drop 235 = dktX27_order_9 := dk_seg dksX27_order_8 24 rfl rfl
theorem dksX27_order_10 : cX27_order.data.toList.drop 259 = dktX27_order_10 := dk_seg dksX27_order_9 24 rfl rfl
theorem dksX27_order_11 : cX27_order.data.toList.drop 283 = dktX27_order_11 := dk_seg dksX27_order_10 24 rfl rfl
theorem dX27_order_0 : decode cX27_order 0 = .ok (.aload_n 1, 1) := dk_43 (dk_at dksX27_order_0 0 rfl rfl)
theorem dX27_order_1 : decode cX27_order 1 = .ok (.astore_n 2, 1) := dk_77 (dk_at dksX27_order_0 1 rfl rfl)
theorem dX27_order_2 : decode cX27_order 2 = .ok (.iconst (-1), 1) := dk_2 (dk_at dksX27_order_0 2 rfl rfl)
theorem dX27_order_3 : decode cX27_order 3 = .ok (.istore_n 3, 1) := dk_62 (dk_at dksX27_order_0 3 rfl rfl)
theorem dX27_order_4 : decode cX27_order 4 = .ok (.aload_n 2, 1) := dk_44 (dk_at dksX27_order_0 4 rfl rfl)
theorem dX27_order_5 : decode cX27_order 5 = .ok (.invokevirtual 60, 3) := dk_182 0 60 (dk_at dksX27_order_0 5 rfl rfl)
theorem dX27_order_8 : decode cX27_order 8 = .ok (.lookupswitch 141 #[(-1274442605, 88), (-940242166, 102), (96417, 130), (94742588, 116), (1090594823, 74), (1095692943, 60)], 60) := by decide +kernel
theorem dX27_order_68 : decode cX27_order 68 = .ok (.aload_n 2, 1) := dk_44 (dk_at dksX27_order_2 0 rfl rfl)
theorem dX27_order_69 : decode cX27_order 69 = .ok (.ldc 65, 2) := dk_18 65 (dk_at dksX27_order_2 1 rfl rfl)
theorem dX27_order_71 : decode cX27_order 71 = .ok (.invokevirtual 67, 3) := dk_182 0 67 (dk_at dksX27_order_2 3 rfl rfl)
theorem dX27_order_74 : decode cX27_order 74 = .ok (.ifCond .eq 75, 3) := dk_153 0 75 (dk_at dksX27_order_2 6 rfl rfl)
theorem dX27_order_77 : decode cX27_order 77 = .ok (.iconst 0, 1) := dk_3 (dk_at dksX27_order_2 9 rfl rfl)
theorem dX27_order_78 : decode cX27_order 78 = .ok (.istore_n 3, 1) := dk_62 (dk_at dksX27_order_2 10 rfl rfl)
theorem dX27_order_79 : decode cX27_order 79 = .ok (.goto 70, 3) := dk_167 0 70 (dk_at dksX27_order_2 11 rfl rfl)
theorem dX27_order_82 : decode cX27_order 82 = .ok (.aload_n 2, 1) := dk_44 (dk_at dksX27_order_2 14 rfl rfl)
theorem dX27_order_83 : decode cX27_order 83 = .ok (.ldc 70, 2) := dk_18 70 (dk_at dksX27_order_2 15 rfl rfl)
theorem dX27_order_85 : decode cX27_order 85 = .ok (.invokevirtual 67, 3) := dk_182 0 67 (dk_at dksX27_order_2 17 rfl rfl)
theorem dX27_order_88 : decode cX27_order 88 = .ok (.ifCond .eq 61, 3) := dk_153 0 61 (dk_at dksX27_order_2 20 rfl rfl)
theorem dX27_order_91 : decode cX27_order 91 = .ok (.iconst 1, 1) := dk_4 (dk_at dksX27_order_2 23 rfl rfl)
theorem dX27_order_92 : decode cX27_order 92 = .ok (.istore_n 3, 1) := dk_62 (dk_at dksX27_order_3 0 rfl rfl)
theorem dX27_order_93 : decode cX27_order 93 = .ok (.goto 56, 3) := dk_167 0 56 (dk_at dksX27_order_3 1 rfl rfl)
theorem dX27_order_96 : decode cX27_order 96 = .ok (.aload_n 2, 1) := dk_44 (dk_at dksX27_order_3 4 rfl rfl)
theorem dX27_order_97 : decode cX27_order 97 = .ok (.ldc 72, 2) := dk_18 72 (dk_at dksX27_order_3 5 rfl rfl)
theorem dX27_order_99 : decode cX27_order 99 = .ok (.invokevirtual 67, 3) := dk_182 0 67 (dk_at dksX27_order_3 7 rfl rfl)
theorem dX27_order_102 : decode cX27_order 102 = .ok (.ifCond .eq 47, 3) := dk_153 0 47 (dk_at dksX27_order_3 10 rfl rfl)
theorem dX27_order_105 : decode cX27_order 105 = .ok (.iconst 2, 1) := dk_5 (dk_at dksX27_order_3 13 rfl rfl)
theorem dX27_order_106 : decode cX27_order 106 = .ok (.istore_n 3, 1) := dk_62 (dk_at dksX27_order_3 14 rfl rfl)
theorem dX27_order_107 : decode cX27_order 107 = .ok (.goto 42, 3) := dk_167 0 42 (dk_at dksX27_order_3 15 rfl rfl)
theorem dX27_order_110 : decode cX27_order 110 = .ok (.aload_n 2, 1) := dk_44 (dk_at dksX27_order_3 18 rfl rfl)
theorem dX27_order_111 : decode cX27_order 111 = .ok (.ldc 74, 2) := dk_18 74 (dk_at dksX27_order_3 19 rfl rfl)
theorem dX27_order_113 : decode cX27_order 113 = .ok (.invokevirtual 67, 3) := dk_182 0 67 (dk_at dksX27_order_3 21 rfl rfl)
theorem dX27_order_116 : decode cX27_order 116 = .ok (.ifCond .eq 33, 3) := dk_153 0 33 (dk_at dksX27_order_4 0 rfl rfl)
theorem dX27_order_119 : decode cX27_order 119 = .ok (.iconst 3, 1) := dk_6 (dk_at dksX27_order_4 3 rfl rfl)
theorem dX27_order_120 : decode cX27_order 120 = .ok (.istore_n 3, 1) := dk_62 (dk_at dksX27_order_4 4 rfl rfl)
theorem dX27_order_121 : decode cX27_order 121 = .ok (.goto 28, 3) := dk_167 0 28 (dk_at dksX27_order_4 5 rfl rfl)
theorem dX27_order_124 : decode cX27_order 124 = .ok (.aload_n 2, 1) := dk_44 (dk_at dksX27_order_4 8 rfl rfl)
theorem dX27_order_125 : decode cX27_order 125 = .ok (.ldc 76, 2) := dk_18 76 (dk_at dksX27_order_4 9 rfl rfl)
theorem dX27_order_127 : decode cX27_order 127 = .ok (.invokevirtual 67, 3) := dk_182 0 67 (dk_at dksX27_order_4 11 rfl rfl)
theorem dX27_order_130 : decode cX27_order 130 = .ok (.ifCond .eq 19, 3) := dk_153 0 19 (dk_at dksX27_order_4 14 rfl rfl)
theorem dX27_order_133 : decode cX27_order 133 = .ok (.iconst 4, 1) := dk_7 (dk_at dksX27_order_4 17 rfl rfl)
theorem dX27_order_134 : decode cX27_order 134 = .ok (.istore_n 3, 1) := dk_62 (dk_at dksX27_order_4 18 rfl rfl)
theorem dX27_order_135 : decode cX27_order 135 = .ok (.goto 14, 3) := dk_167 0 14 (dk_at dksX27_order_4 19 rfl rfl)
theorem dX27_order_138 : decode cX27_order 138 = .ok (.aload_n 2, 1) := dk_44 (dk_at dksX27_order_4 22 rfl rfl)
theorem dX27_order_139 : decode cX27_order 139 = .ok (.ldc 78, 2) := dk_18 78 (dk_at dksX27_order_5 0 rfl rfl)
theorem dX27_order_141 : decode cX27_order 141 = .ok (.invokevirtual 67, 3) := dk_182 0 67 (dk_at dksX27_order_5 2 rfl rfl)
theorem dX27_order_144 : decode cX27_order 144 = .ok (.ifCond .eq 5, 3) := dk_153 0 5 (dk_at dksX27_order_5 5 rfl rfl)
theorem dX27_order_147 : decode cX27_order 147 = .ok (.iconst 5, 1) := dk_8 (dk_at dksX27_order_5 8 rfl rfl)
theorem dX27_order_148 : decode cX27_order 148 = .ok (.istore_n 3, 1) := dk_62 (dk_at dksX27_order_5 9 rfl rfl)
theorem dX27_order_149 : decode cX27_order 149 = .ok (.iload_n 3, 1) := dk_29 (dk_at dksX27_order_5 10 rfl rfl)
theorem dX27_order_150 : decode cX27_order 150 = .ok (.tableswitch 129 0 5 #[38, 56, 74, 84, 94, 115], 38) := by decide +kernel
theorem dX27_order_188 : decode cX27_order 188 = .ok (.aload_n 0, 1) := dk_42 (dk_at dksX27_order_7 0 rfl rfl)
theorem dX27_order_189 : decode cX27_order 189 = .ok (.invokevirtual 85, 3) := dk_182 0 85 (dk_at dksX27_order_7 1 rfl rfl)
theorem dX27_order_192 : decode cX27_order 192 = .ok (.aload_n 0, 1) := dk_42 (dk_at dksX27_order_7 4 rfl rfl)
theorem dX27_order_193 : decode cX27_order 193 = .ok (.invokevirtual 88, 3) := dk_182 0 88 (dk_at dksX27_order_7 5 rfl rfl)
theorem dX27_order_196 : decode cX27_order 196 = .ok (.aload_n 0, 1) := dk_42 (dk_at dksX27_order_7 8 rfl rfl)
theorem dX27_order_197 : decode cX27_order 197 = .ok (.invokevirtual 91, 3) := dk_182 0 91 (dk_at dksX27_order_7 9 rfl rfl)
theorem dX27_order_200 : decode cX27_order 200 = .ok (.invokestatic 94, 3) := dk_184 0 94 (dk_at dksX27_order_7 12 rfl rfl)
theorem dX27_order_203 : decode cX27_order 203 = .ok (.goto 87, 3) := dk_167 0 87 (dk_at dksX27_order_7 15 rfl rfl)
theorem dX27_order_206 : decode cX27_order 206 = .ok (.aload_n 0, 1) := dk_42 (dk_at dksX27_order_7 18 rfl rfl)
theorem dX27_order_207 : decode cX27_order 207 = .ok (.invokevirtual 85, 3) := dk_182 0 85 (dk_at dksX27_order_7 19 rfl rfl)
theorem dX27_order_210 : decode cX27_order 210 = .ok (.aload_n 0, 1) := dk_42 (dk_at dksX27_order_7 22 rfl rfl)
theorem dX27_order_211 : decode cX27_order 211 = .ok (.invokevirtual 88, 3) := dk_182 0 88 (dk_at dksX27_order_8 0 rfl rfl)
theorem dX27_order_214 : decode cX27_order 214 = .ok (.aload_n 0, 1) := dk_42 (dk_at dksX27_order_8 3 rfl rfl)
theorem dX27_order_215 : decode cX27_order 215 = .ok (.invokevirtual 91, 3) := dk_182 0 91 (dk_at dksX27_order_8 4 rfl rfl)
theorem dX27_order_218 : decode cX27_order 218 = .ok (.invokestatic 100, 3) := dk_184 0 100 (dk_at dksX27_order_8 7 rfl rfl)
theorem dX27_order_221 : decode cX27_order 221 = .ok (.goto 69, 3) := dk_167 0 69 (dk_at dksX27_order_8 10 rfl rfl)
theorem dX27_order_224 : decode cX27_order 224 = .ok (.aload_n 0, 1) := dk_42 (dk_at dksX27_order_8 13 rfl rfl)
theorem dX27_order_225 : decode cX27_order 225 = .ok (.invokevirtual 85, 3) := dk_182 0 85 (dk_at dksX27_order_8 14 rfl rfl)
theorem dX27_order_228 : decode cX27_order 228 = .ok (.invokestatic 103, 3) := dk_184 0 103 (dk_at dksX27_order_8 17 rfl rfl)
theorem dX27_order_231 : decode cX27_order 231 = .ok (.goto 59, 3) := dk_167 0 59 (dk_at dksX27_order_8 20 rfl rfl)
theorem dX27_order_234 : decode cX27_order 234 = .ok (.aload_n 0, 1) := dk_42 (dk_at dksX27_order_8 23 rfl rfl)
theorem dX27_order_235 : decode cX27_order 235 = .ok (.invokevirtual 85, 3) := dk_182 0 85 (dk_at dksX27_order_9 0 rfl rfl)
theorem dX27_order_238 : decode cX27_order 238 = .ok (.invokestatic 107, 3) := dk_184 0 107 (dk_at dksX27_order_9 3 rfl rfl)
theorem dX27_order_241 : decode cX27_order 241 = .ok (.goto 49, 3) := dk_167 0 49 (dk_at dksX27_order_9 6 rfl rfl)
theorem dX27_order_244 : decode cX27_order 244 = .ok (.aload_n 0, 1) := dk_42 (dk_at dksX27_order_9 9 rfl rfl)
theorem dX27_order_245 : decode cX27_order 245 = .ok (.invokevirtual 85, 3) := dk_182 0 85 (dk_at dksX27_order_9 10 rfl rfl)
theorem dX27_order_248 : decode cX27_order 248 = .ok (.aload_n 0, 1) := dk_42 (dk_at dksX27_order_9 13 rfl rfl)
theorem dX27_order_249 : decode cX27_order 249 = .ok (.invokevirtual 88, 3) := dk_182 0 88 (dk_at dksX27_order_9 14 rfl rfl)
theorem dX27_order_252 : decode cX27_order 252 = .ok (.aload_n 0, 1) := dk_42 (dk_at dksX27_order_9 17 rfl rfl)
theorem dX27_order_253 : decode cX27_order 253 = .ok (.iconst 0, 1) := dk_3 (dk_at dksX27_order_9 18 rfl rfl)
theorem dX27_order_254 : decode cX27_order 254 = .ok (.bipush 40, 2) := dk_16 40 (dk_at dksX27_order_9 19 rfl rfl)
theorem dX27_order_256 : decode cX27_order 256 = .ok (.invokevirtual 81, 3) := dk_182 0 81 (dk_at dksX27_order_9 21 rfl rfl)
theorem dX27_order_259 : decode cX27_order 259 = .ok (.invokestatic 110, 3) := dk_184 0 110 (dk_at dksX27_order_10 0 rfl rfl)
theorem dX27_order_262 : decode cX27_order 262 = .ok (.goto 28, 3) := dk_167 0 28 (dk_at dksX27_order_10 3 rfl rfl)
theorem dX27_order_265 : decode cX27_order 265 = .ok (.aload_n 0, 1) := dk_42 (dk_at dksX27_order_10 6 rfl rfl)
theorem dX27_order_266 : decode cX27_order 266 = .ok (.invokevirtual 88, 3) := dk_182 0 88 (dk_at dksX27_order_10 7 rfl rfl)
theorem dX27_order_269 : decode cX27_order 269 = .ok (.aload_n 0, 1) := dk_42 (dk_at dksX27_order_10 10 rfl rfl)
theorem dX27_order_270 : decode cX27_order 270 = .ok (.invokevirtual 91, 3) := dk_182 0 91 (dk_at dksX27_order_10 11 rfl rfl)
theorem dX27_order_273 : decode cX27_order 273 = .ok (.invokestatic 113, 3) := dk_184 0 113 (dk_at dksX27_order_10 14 rfl rfl)
theorem dX27_order_276 : decode cX27_order 276 = .ok (.goto 14, 3) := dk_167 0 14 (dk_at dksX27_order_10 17 rfl rfl)
theorem dX27_order_279 : decode cX27_order 279 = .ok (.aload_n 0, 1) := dk_42 (dk_at dksX27_order_10 20 rfl rfl)
theorem dX27_order_280 : decode cX27_order 280 = .ok (.invokevirtual 88, 3) := dk_182 0 88 (dk_at dksX27_order_10 21 rfl rfl)
theorem dX27_order_283 : decode cX27_order 283 = .ok (.aload_n 0, 1) := dk_42 (dk_at dksX27_order_11 0 rfl rfl)
theorem dX27_order_284 : decode cX27_order 284 = .ok (.invokevirtual 91, 3) := dk_182 0 91 (dk_at dksX27_order_11 1 rfl rfl)
theorem dX27_order_287 : decode cX27_order 287 = .ok (.invokestatic 117, 3) := dk_184 0 117 (dk_at dksX27_order_11 4 rfl rfl)
theorem dX27_order_290 : decode cX27_order 290 = .ok (.areturn, 1) := dk_176 (dk_at dksX27_order_11 7 rfl rfl)
abbrev cX27_office : ByteArray := prog_23_method_4_code
def yX27_office : MethodName := ⟨RX27, "office", "()I"⟩
def dkwX27_office_0 : List UInt8 := [42, 3, 16, 7, 182, 0, 81, 172]
abbrev dktX27_office_0 : List UInt8 := dkwX27_office_0 ++ []
theorem dksX27_office_0 : cX27_office.data.toList.drop 0 = dktX27_office_0 := by decide +kernel
theorem dX27_office_0 : decode cX27_office 0 = .ok (.aload_n 0, 1) := dk_42 (dk_at dksX27_office_0 0 rfl rfl)
theorem dX27_office_1 : decode cX27_office 1 = .ok (.iconst 0, 1) := dk_3 (dk_at dksX27_office_0 1 rfl rfl)
theorem dX27_office_2 : decode cX27_office 2 = .ok (.bipush 7, 2) := dk_16 7 (dk_at dksX27_office_0 2 rfl rfl)
theorem dX27_office_4 : decode cX27_office 4 = .ok (.invokevirtual 81, 3) := dk_182 0 81 (dk_at dksX27_office_0 4 rfl rfl)
theorem dX27_office_7 : decode cX27_office 7 = .ok (.ireturn, 1) := dk_172 (dk_at dksX27_office_0 7 rfl rfl)
abbrev cX27_printerKind : ByteArray := prog_23_method_5_code
def yX27_printerKind : MethodName := ⟨RX27, "printerKind", "()I"⟩
def dkwX27_printerKind_0 : List UInt8 := [42, 3, 6, 182, 0, 81, 172]
abbrev dktX27_printerKind_0 : List UInt8 := dkwX27_printerKind_0 ++ []
theorem dksX27_printerKind_0 : cX27_printerKind.data.toList.drop 0 = dktX27_printerKind_0 := by decide +kernel
theorem dX27_printerKind_0 : decode cX27_printerKind 0 = .ok (.aload_n 0, 1) := dk_42 (dk_at dksX27_printerKind_0 0 rfl rfl)
theorem dX27_printerKind_1 : decode cX27_printerKind 1 = .ok (.iconst 0, 1) := dk_3 (dk_at dksX27_printerKind_0 1 rfl rfl)
theorem dX27_printerKind_2 : decode cX27_printerKind 2 = .ok (.iconst 3, 1) := dk_6 (dk_at dksX27_printerKind_0 2 rfl rfl)
theorem dX27_printerKind_3 : decode cX27_printerKind 3 = .ok (.invokevirtual 81, 3) := dk_182 0 81 (dk_at dksX27_printerKind_0 3 rfl rfl)
theorem dX27_printerKind_6 : decode cX27_printerKind 6 = .ok (.ireturn, 1) := dk_172 (dk_at dksX27_printerKind_0 6 rfl rfl)
abbrev cX27_count : ByteArray := prog_23_method_6_code
def yX27_count : MethodName := ⟨RX27, "count", "()I"⟩
def dkwX27_count_0 : List UInt8 := [42, 4, 16, 20, 182, 0, 81, 172]
abbrev dktX27_count_0 : List UInt8 := dkwX27_count_0 ++ []
theorem dksX27_count_0 : cX27_count.data.toList.drop 0 = dktX27_count_0 := by decide +kernel
theorem dX27_count_0 : decode cX27_count 0 = .ok (.aload_n 0, 1) := dk_42 (dk_at dksX27_count_0 0 rfl rfl)
theorem dX27_count_1 : decode cX27_count 1 = .ok (.iconst 1, 1) := dk_4 (dk_at dksX27_count_0 1 rfl rfl)
theorem dX27_count_2 : decode cX27_count 2 = .ok (.bipush 20, 2) := dk_16 20 (dk_at dksX27_count_0 2 rfl rfl)
theorem dX27_count_4 : decode cX27_count 4 = .ok (.invokevirtual 81, 3) := dk_182 0 81 (dk_at dksX27_count_0 4 rfl rfl)
theorem dX27_count_7 : decode cX27_count 7 = .ok (.ireturn, 1) := dk_172 (dk_at dksX27_count_0 7 rfl rfl)
theorem q153 : (Jvm.Cond.initialized "PrinterClaims$Script") ∈ lw_all := lw_g (lw_at lw_m1 55 rfl) rfl
theorem q664 : (Jvm.Cond.selects "PrinterClaims$Script" ({ cls := "java/lang/Object", name := "getClass", desc := "()Ljava/lang/Class;" } : Jvm.MethodName) ({ cls := "java/lang/Object", name := "getClass", desc := "()Ljava/lang/Class;" } : Jvm.MethodName)) ∈ lw_all := lw_g (lw_at lw_m3 86 rfl) rfl
theorem q1039 : (Jvm.Cond.selects "PrinterClaims$Script" ({ cls := "PrinterClaims$Scanner", name := "advance", desc := "()V" } : Jvm.MethodName) ({ cls := "PrinterClaims$Scanner", name := "advance", desc := "()V" } : Jvm.MethodName)) ∈ lw_all := lw_g (lw_at lw_m4 221 rfl) rfl
theorem q1085 : (Jvm.Cond.fieldLink "PrinterClaims$Script" (20 : Nat) "PrinterClaims$Script" "kind" "I") ∈ lw_all := lw_g (lw_at lw_m5 27 rfl) rfl
theorem q1086 : (Jvm.Cond.sameField "PrinterClaims$Script" "PrinterClaims$Scanner" "kind" "I") ∈ lw_all := lw_g (lw_at lw_m5 28 rfl) rfl
theorem q1091 : (Jvm.Cond.fieldLink "PrinterClaims$Script" (24 : Nat) "PrinterClaims$Script" "word" "Ljava/lang/String;") ∈ lw_all := lw_g (lw_at lw_m5 33 rfl) rfl
theorem q1092 : (Jvm.Cond.sameField "PrinterClaims$Script" "PrinterClaims$Scanner" "word" "Ljava/lang/String;") ∈ lw_all := lw_g (lw_at lw_m5 34 rfl) rfl
theorem q1133 : (Jvm.Cond.selects "PrinterClaims$Script" ({ cls := "PrinterClaims$Scanner", name := "allow", desc := "(Z)V" } : Jvm.MethodName) ({ cls := "PrinterClaims$Scanner", name := "allow", desc := "(Z)V" } : Jvm.MethodName)) ∈ lw_all := lw_g (lw_at lw_m5 75 rfl) rfl
theorem q2116 : (Jvm.Cond.instantiable "PrinterClaims$Script" (8 : Nat)) ∈ lw_all := lw_g (lw_at lw_m9 98 rfl) rfl
theorem q2118 : (Jvm.Cond.instanceMethod ({ cls := "PrinterClaims$Script", name := "<init>", desc := "([BI)V" } : Jvm.MethodName)) ∈ lw_all := lw_g (lw_at lw_m9 100 rfl) rfl
theorem q2119 : (Jvm.Cond.code ({ cls := "PrinterClaims$Script", name := "<init>", desc := "([BI)V" } : Jvm.MethodName) prog_23_method_1_code (3 : Nat) (Option.none : Option Jvm.ClassFile.FieldType)) ∈ lw_all := lw_g (lw_at lw_m9 101 rfl) rfl
theorem q2120 : (Jvm.Cond.methodLink "PrinterClaims$Script" (3 : Nat) ({ cls := "PrinterClaims$Scanner", name := "<init>", desc := "([BI)V" } : Jvm.MethodName)) ∈ lw_all := lw_g (lw_at lw_m9 102 rfl) rfl
theorem q2121 : (Jvm.Cond.classLink "PrinterClaims$Script" (9 : Nat) "java/util/ArrayList") ∈ lw_all := lw_g (lw_at lw_m9 103 rfl) rfl
theorem q2122 : (Jvm.Cond.methodLink "PrinterClaims$Script" (11 : Nat) ({ cls := "java/util/ArrayList", name := "<init>", desc := "(I)V" } : Jvm.MethodName)) ∈ lw_all := lw_g (lw_at lw_m9 104 rfl) rfl
theorem q2123 : (Jvm.Cond.fieldLink "PrinterClaims$Script" (14 : Nat) "PrinterClaims$Script" "orders" "Ljava/util/List;") ∈ lw_all := lw_g (lw_at lw_m9 105 rfl) rfl
theorem q2124 : (Jvm.Cond.laysFinal "PrinterClaims$Script" "PrinterClaims$Script" "orders" "Ljava/util/List;") ∈ lw_all := lw_g (lw_at lw_m9 106 rfl) rfl
theorem q2125 : (Jvm.Cond.soleField "PrinterClaims$Script" "orders") ∈ lw_all := lw_g (lw_at lw_m9 107 rfl) rfl
theorem q2126 : (Jvm.Cond.laysFinal "PrinterClaims$Script" "PrinterClaims$Scanner" "text" "[B") ∈ lw_all := lw_g (lw_at lw_m9 108 rfl) rfl
theorem q2127 : (Jvm.Cond.laysFinal "PrinterClaims$Script" "PrinterClaims$Scanner" "end" "I") ∈ lw_all := lw_g (lw_at lw_m9 109 rfl) rfl
theorem q2128 : (Jvm.Cond.lays "PrinterClaims$Script" "PrinterClaims$Scanner" "begin" "I") ∈ lw_all := lw_g (lw_at lw_m9 110 rfl) rfl
theorem q2129 : (Jvm.Cond.lays "PrinterClaims$Script" "PrinterClaims$Scanner" "next" "I") ∈ lw_all := lw_g (lw_at lw_m9 111 rfl) rfl
theorem q2130 : (Jvm.Cond.lays "PrinterClaims$Script" "PrinterClaims$Scanner" "value" "I") ∈ lw_all := lw_g (lw_at lw_m9 112 rfl) rfl
theorem q2131 : (Jvm.Cond.lays "PrinterClaims$Script" "PrinterClaims$Scanner" "kind" "I") ∈ lw_all := lw_g (lw_at lw_m9 113 rfl) rfl
theorem q2132 : (Jvm.Cond.lays "PrinterClaims$Script" "PrinterClaims$Scanner" "word" "Ljava/lang/String;") ∈ lw_all := lw_g (lw_at lw_m9 114 rfl) rfl
theorem q2133 : (Jvm.Cond.superclass "PrinterClaims$Script" "PrinterClaims$Scanner") ∈ lw_all := lw_g (lw_at lw_m9 115 rfl) rfl
theorem q2135 : (Jvm.Cond.instanceMethod ({ cls := "PrinterClaims$Script", name := "read", desc := "()Ljava/util/List;" } : Jvm.MethodName)) ∈ lw_all := lw_g (lw_at lw_m9 117 rfl) rfl
theorem q2136 : (Jvm.Cond.selects "PrinterClaims$Script" ({ cls := "PrinterClaims$Script", name := "read", desc := "()Ljava/util/List;" } : Jvm.MethodName) ({ cls := "PrinterClaims$Script", name := "read", desc := "()Ljava/util/List;" } : Jvm.MethodName)) ∈ lw_all := lw_g (lw_at lw_m9 118 rfl) rfl
theorem q2137 : (Jvm.Cond.code ({ cls := "PrinterClaims$Script", name := "read", desc := "()Ljava/util/List;" } : Jvm.MethodName) prog_23_method_2_code (2 : Nat) (Option.some (Jvm.ClassFile.FieldType.object "java/util/List"))) ∈ lw_all := lw_g (lw_at lw_m9 119 rfl) rfl
theorem q2138 : (Jvm.Cond.methodLink "PrinterClaims$Script" (28 : Nat) ({ cls := "PrinterClaims$Script", name := "isCommand", desc := "(Ljava/lang/String;)Z" } : Jvm.MethodName)) ∈ lw_all := lw_g (lw_at lw_m9 120 rfl) rfl
theorem q2139 : (Jvm.Cond.static ({ cls := "PrinterClaims$Script", name := "isCommand", desc := "(Ljava/lang/String;)Z" } : Jvm.MethodName)) ∈ lw_all := lw_g (lw_at lw_m9 121 rfl) rfl
theorem q2140 : (Jvm.Cond.code ({ cls := "PrinterClaims$Script", name := "isCommand", desc := "(Ljava/lang/String;)Z" } : Jvm.MethodName) prog_23_method_3_code (3 : Nat) (Option.some Jvm.ClassFile.FieldType.boolean)) ∈ lw_all := lw_g (lw_at lw_m9 122 rfl) rfl
theorem q2141 : (Jvm.Cond.methodLink "PrinterClaims$Script" (60 : Nat) ({ cls := "java/lang/String", name := "hashCode", desc := "()I" } : Jvm.MethodName)) ∈ lw_all := lw_g (lw_at lw_m9 123 rfl) rfl
theorem q2202 : (Jvm.Cond.stringRef "PrinterClaims$Script" (65 : Nat) "request") ∈ lw_tbl := lw_at lw_m9 184 rfl
theorem q2203 : (Jvm.Cond.methodLink "PrinterClaims$Script" (67 : Nat) ({ cls := "java/lang/String", name := "equals", desc := "(Ljava/lang/Object;)Z" } : Jvm.MethodName)) ∈ lw_all := lw_g (lw_at lw_m9 185 rfl) rfl
theorem q2204 : (Jvm.Cond.stringRef "PrinterClaims$Script" (70 : Nat) "release") ∈ lw_tbl := lw_at lw_m9 186 rfl
theorem q2205 : (Jvm.Cond.stringRef "PrinterClaims$Script" (72 : Nat) "finish") ∈ lw_tbl := lw_at lw_m9 187 rfl
theorem q2206 : (Jvm.Cond.stringRef "PrinterClaims$Script" (74 : Nat) "withdraw") ∈ lw_tbl := lw_at lw_m9 188 rfl
theorem q2207 : (Jvm.Cond.stringRef "PrinterClaims$Script" (76 : Nat) "claim") ∈ lw_tbl := lw_at lw_m9 189 rfl
theorem q2208 : (Jvm.Cond.stringRef "PrinterClaims$Script" (78 : Nat) "add") ∈ lw_tbl := lw_at lw_m9 190 rfl
theorem q2209 : (Jvm.Cond.stringRef "PrinterClaims$Script" (79 : Nat) "retire") ∈ lw_tbl := lw_at lw_m9 191 rfl
theorem q2210 : (Jvm.Cond.methodLink "PrinterClaims$Script" (32 : Nat) ({ cls := "PrinterClaims$Script", name := "allow", desc := "(Z)V" } : Jvm.MethodName)) ∈ lw_all := lw_g (lw_at lw_m9 192 rfl) rfl
theorem q2211 : (Jvm.Cond.sameMethod "PrinterClaims$Script" "PrinterClaims$Scanner" "allow" "(Z)V") ∈ lw_all := lw_g (lw_at lw_m9 193 rfl) rfl
theorem q2212 : (Jvm.Cond.selects "PrinterClaims$Script" ({ cls := "PrinterClaims$Script", name := "allow", desc := "(Z)V" } : Jvm.MethodName) ({ cls := "PrinterClaims$Scanner", name := "allow", desc := "(Z)V" } : Jvm.MethodName)) ∈ lw_all := lw_g (lw_at lw_m9 194 rfl) rfl
theorem q2213 : (Jvm.Cond.interfaceEntry "PrinterClaims$Script" (36 : Nat)) ∈ lw_tbl := lw_at lw_m9 195 rfl
theorem q2214 : (Jvm.Cond.methodLink "PrinterClaims$Script" (36 : Nat) ({ cls := "java/util/List", name := "size", desc := "()I" } : Jvm.MethodName)) ∈ lw_all := lw_g (lw_at lw_m9 196 rfl) rfl
theorem q2215 : (Jvm.Cond.methodLink "PrinterClaims$Script" (42 : Nat) ({ cls := "PrinterClaims$Script", name := "fit", desc := "(Z)V" } : Jvm.MethodName)) ∈ lw_all := lw_g (lw_at lw_m9 197 rfl) rfl
theorem q2216 : (Jvm.Cond.sameMethod "PrinterClaims$Script" "PrinterClaims$Scanner" "fit" "(Z)V") ∈ lw_all := lw_g (lw_at lw_m9 198 rfl) rfl
theorem q2217 : (Jvm.Cond.selects "PrinterClaims$Script" ({ cls := "PrinterClaims$Script", name := "fit", desc := "(Z)V" } : Jvm.MethodName) ({ cls := "PrinterClaims$Scanner", name := "fit", desc := "(Z)V" } : Jvm.MethodName)) ∈ lw_all := lw_g (lw_at lw_m9 199 rfl) rfl
theorem q2218 : (Jvm.Cond.methodLink "PrinterClaims$Script" (45 : Nat) ({ cls := "PrinterClaims$Script", name := "advance", desc := "()V" } : Jvm.MethodName)) ∈ lw_all := lw_g (lw_at lw_m9 200 rfl) rfl
theorem q2219 : (Jvm.Cond.sameMethod "PrinterClaims$Script" "PrinterClaims$Scanner" "advance" "()V") ∈ lw_all := lw_g (lw_at lw_m9 201 rfl) rfl
theorem q2220 : (Jvm.Cond.selects "PrinterClaims$Script" ({ cls := "PrinterClaims$Script", name := "advance", desc := "()V" } : Jvm.MethodName) ({ cls := "PrinterClaims$Scanner", name := "advance", desc := "()V" } : Jvm.MethodName)) ∈ lw_all := lw_g (lw_at lw_m9 202 rfl) rfl
theorem q2221 : (Jvm.Cond.methodLink "PrinterClaims$Script" (49 : Nat) ({ cls := "PrinterClaims$Script", name := "order", desc := "(Ljava/lang/String;)LPrinterClaims$Order;" } : Jvm.MethodName)) ∈ lw_all := lw_g (lw_at lw_m9 203 rfl) rfl
theorem q2222 : (Jvm.Cond.privateMethod ({ cls := "PrinterClaims$Script", name := "order", desc := "(Ljava/lang/String;)LPrinterClaims$Order;" } : Jvm.MethodName)) ∈ lw_tbl := lw_at lw_m9 204 rfl
theorem q2223 : (Jvm.Cond.instanceMethod ({ cls := "PrinterClaims$Script", name := "order", desc := "(Ljava/lang/String;)LPrinterClaims$Order;" } : Jvm.MethodName)) ∈ lw_all := lw_g (lw_at lw_m9 205 rfl) rfl
theorem q2224 : (Jvm.Cond.code ({ cls := "PrinterClaims$Script", name := "order", desc := "(Ljava/lang/String;)LPrinterClaims$Order;" } : Jvm.MethodName) prog_23_method_7_code (4 : Nat) (Option.some (Jvm.ClassFile.FieldType.object "PrinterClaims$Order"))) ∈ lw_all := lw_g (lw_at lw_m9 206 rfl) rfl
theorem q2225 : (Jvm.Cond.methodLink "PrinterClaims$Script" (85 : Nat) ({ cls := "PrinterClaims$Script", name := "office", desc := "()I" } : Jvm.MethodName)) ∈ lw_all := lw_g (lw_at lw_m9 207 rfl) rfl
theorem q2226 : (Jvm.Cond.privateMethod ({ cls := "PrinterClaims$Script", name := "office", desc := "()I" } : Jvm.MethodName)) ∈ lw_tbl := lw_at lw_m9 208 rfl
theorem q2227 : (Jvm.Cond.instanceMethod ({ cls := "PrinterClaims$Script", name := "office", desc := "()I" } : Jvm.MethodName)) ∈ lw_all := lw_g (lw_at lw_m9 209 rfl) rfl
theorem q2228 : (Jvm.Cond.code ({ cls := "PrinterClaims$Script", name := "office", desc := "()I" } : Jvm.MethodName) prog_23_method_4_code (1 : Nat) (Option.some Jvm.ClassFile.FieldType.int)) ∈ lw_all := lw_g (lw_at lw_m9 210 rfl) rfl
theorem q2229 : (Jvm.Cond.methodLink "PrinterClaims$Script" (81 : Nat) ({ cls := "PrinterClaims$Script", name := "number", desc := "(II)I" } : Jvm.MethodName)) ∈ lw_all := lw_g (lw_at lw_m9 211 rfl) rfl
theorem q2230 : (Jvm.Cond.sameMethod "PrinterClaims$Script" "PrinterClaims$Scanner" "number" "(II)I") ∈ lw_all := lw_g (lw_at lw_m9 212 rfl) rfl
theorem q2231 : (Jvm.Cond.selects "PrinterClaims$Script" ({ cls := "PrinterClaims$Script", name := "number", desc := "(II)I" } : Jvm.MethodName) ({ cls := "PrinterClaims$Scanner", name := "number", desc := "(II)I" } : Jvm.MethodName)) ∈ lw_all := lw_g (lw_at lw_m9 213 rfl) rfl
theorem q2232 : (Jvm.Cond.methodLink "PrinterClaims$Script" (88 : Nat) ({ cls := "PrinterClaims$Script", name := "printerKind", desc := "()I" } : Jvm.MethodName)) ∈ lw_all := lw_g (lw_at lw_m9 214 rfl) rfl
theorem q2233 : (Jvm.Cond.privateMethod ({ cls := "PrinterClaims$Script", name := "printerKind", desc := "()I" } : Jvm.MethodName)) ∈ lw_tbl := lw_at lw_m9 215 rfl
theorem q2234 : (Jvm.Cond.instanceMethod ({ cls := "PrinterClaims$Script", name := "printerKind", desc := "()I" } : Jvm.MethodName)) ∈ lw_all := lw_g (lw_at lw_m9 216 rfl) rfl
theorem q2235 : (Jvm.Cond.code ({ cls := "PrinterClaims$Script", name := "printerKind", desc := "()I" } : Jvm.MethodName) prog_23_method_5_code (1 : Nat) (Option.some Jvm.ClassFile.FieldType.int)) ∈ lw_all := lw_g (lw_at lw_m9 217 rfl) rfl
theorem q2236 : (Jvm.Cond.methodLink "PrinterClaims$Script" (91 : Nat) ({ cls := "PrinterClaims$Script", name := "count", desc := "()I" } : Jvm.MethodName)) ∈ lw_all := lw_g (lw_at lw_m9 218 rfl) rfl
theorem q2237 : (Jvm.Cond.privateMethod ({ cls := "PrinterClaims$Script", name := "count", desc := "()I" } : Jvm.MethodName)) ∈ lw_tbl := lw_at lw_m9 219 rfl
theorem q2238 : (Jvm.Cond.instanceMethod ({ cls := "PrinterClaims$Script", name := "count", desc := "()I" } : Jvm.MethodName)) ∈ lw_all := lw_g (lw_at lw_m9 220 rfl) rfl
theorem q2239 : (Jvm.Cond.code ({ cls := "PrinterClaims$Script", name := "count", desc := "()I" } : Jvm.MethodName) prog_23_method_6_code (1 : Nat) (Option.some Jvm.ClassFile.FieldType.int)) ∈ lw_all := lw_g (lw_at lw_m9 221 rfl) rfl
theorem q2240 : (Jvm.Cond.methodLink "PrinterClaims$Script" (94 : Nat) ({ cls := "PrinterClaims$Order", name := "requesting", desc := "(III)LPrinterClaims$Order;" } : Jvm.MethodName)) ∈ lw_all := lw_g (lw_at lw_m9 222 rfl) rfl
theorem q2241 : (Jvm.Cond.methodLink "PrinterClaims$Script" (100 : Nat) ({ cls := "PrinterClaims$Order", name := "releasing", desc := "(III)LPrinterClaims$Order;" } : Jvm.MethodName)) ∈ lw_all := lw_g (lw_at lw_m9 223 rfl) rfl
theorem q2242 : (Jvm.Cond.methodLink "PrinterClaims$Script" (103 : Nat) ({ cls := "PrinterClaims$Order", name := "finishing", desc := "(I)LPrinterClaims$Order;" } : Jvm.MethodName)) ∈ lw_all := lw_g (lw_at lw_m9 224 rfl) rfl
theorem q2243 : (Jvm.Cond.methodLink "PrinterClaims$Script" (107 : Nat) ({ cls := "PrinterClaims$Order", name := "withdrawing", desc := "(I)LPrinterClaims$Order;" } : Jvm.MethodName)) ∈ lw_all := lw_g (lw_at lw_m9 225 rfl) rfl
theorem q2244 : (Jvm.Cond.methodLink "PrinterClaims$Script" (110 : Nat) ({ cls := "PrinterClaims$Order", name := "claiming", desc := "(III)LPrinterClaims$Order;" } : Jvm.MethodName)) ∈ lw_all := lw_g (lw_at lw_m9 226 rfl) rfl
theorem q2245 : (Jvm.Cond.methodLink "PrinterClaims$Script" (113 : Nat) ({ cls := "PrinterClaims$Order", name := "adding", desc := "(II)LPrinterClaims$Order;" } : Jvm.MethodName)) ∈ lw_all := lw_g (lw_at lw_m9 227 rfl) rfl
theorem q2246 : (Jvm.Cond.methodLink "PrinterClaims$Script" (117 : Nat) ({ cls := "PrinterClaims$Order", name := "retiring", desc := "(II)LPrinterClaims$Order;" } : Jvm.MethodName)) ∈ lw_all := lw_g (lw_at lw_m9 228 rfl) rfl
theorem q2247 : (Jvm.Cond.interfaceEntry "PrinterClaims$Script" (53 : Nat)) ∈ lw_tbl := lw_at lw_m9 229 rfl
theorem q2248 : (Jvm.Cond.methodLink "PrinterClaims$Script" (53 : Nat) ({ cls := "java/util/List", name := "add", desc := "(Ljava/lang/Object;)Z" } : Jvm.MethodName)) ∈ lw_all := lw_g (lw_at lw_m9 230 rfl) rfl
theorem q2249 : (Jvm.Cond.methodLink "PrinterClaims$Script" (57 : Nat) ({ cls := "PrinterClaims$Script", name := "semicolon", desc := "()V" } : Jvm.MethodName)) ∈ lw_all := lw_g (lw_at lw_m9 231 rfl) rfl
theorem q2250 : (Jvm.Cond.sameMethod "PrinterClaims$Script" "PrinterClaims$Scanner" "semicolon" "()V") ∈ lw_all := lw_g (lw_at lw_m9 232 rfl) rfl
theorem q2251 : (Jvm.Cond.selects "PrinterClaims$Script" ({ cls := "PrinterClaims$Script", name := "semicolon", desc := "()V" } : Jvm.MethodName) ({ cls := "PrinterClaims$Scanner", name := "semicolon", desc := "()V" } : Jvm.MethodName)) ∈ lw_all := lw_g (lw_at lw_m9 233 rfl) rfl
theorem q2951 : (Jvm.Cond.selects "PrinterClaims$Script" ({ cls := "PrinterClaims$Scanner", name := "look", desc := "(II)I" } : Jvm.MethodName) ({ cls := "PrinterClaims$Scanner", name := "look", desc := "(II)I" } : Jvm.MethodName)) ∈ lw_all := lw_g (lw_at lw_m12 213 rfl) rfl
theorem q2992 : (Jvm.Cond.castable "PrinterClaims$Script" "java/lang/Object") ∈ lw_tbl := lw_at lw_m13 14 rfl
theorem in_X27 : ∀ w ∈ wsX270, w ∈ lw_all := lw_in wsX270 [2126, 2127, 2128, 2129, 2130, 2131, 2132, 2124] (by decide +kernel) (by decide +kernel)

/-! PrinterClaims$Stop -/
set_option maxRecDepth 100000
def RX28 : String := "PrinterClaims$Stop"
def TX28 : u_T := fun k => match k with
  | 0 => ("java/lang/Throwable", "cause", "Ljava/lang/Throwable;", false)
  | 1 => ("java/lang/Throwable", "stackTrace", "[Ljava/lang/StackTraceElement;", false)
  | 2 => ("java/lang/Throwable", "suppressedExceptions", "Ljava/util/List;", false)
  | 3 => ("java/lang/Throwable", "detailMessage", "Ljava/lang/String;", false)
  | 4 => ("java/lang/Throwable", "backtrace", "Ljava/lang/Object;", false)
  | 5 => ("java/lang/Throwable", "depth", "I", false)
  | _ => ("PrinterClaims$Stop", "done", "I", true)
def tyX28 : Nat → FieldType := fun k => match k with
  | 0 => .object "java/lang/Throwable"
  | 1 => .array (.object "java/lang/StackTraceElement")
  | 2 => .object "java/util/List"
  | 3 => .object "java/lang/String"
  | 4 => .object "java/lang/Object"
  | 5 => .int
  | _ => .int
abbrev wsX280 : List Cond := u_ws RX28 TX28 7
theorem nmX28 : ∀ a, a < 7 → ∀ b, b < 7 → a ≠ b → (TX28 a).2.1 ≠ (TX28 b).2.1 := by decide +kernel
theorem tyX28_ok : ∀ k, k < 7 → parseFieldDescriptor (TX28 k).2.2.1 = some (tyX28 k) := by decide +kernel
abbrev cX28_init : ByteArray := prog_26_method_1_code
def yX28_init : MethodName := ⟨RX28, "<init>", "(ILPrinterClaims$Refusal;)V"⟩
def dkwX28_init_0 : List UInt8 := [42, 1, 44, 3, 3, 183, 0, 1, 42, 27, 181, 0, 7, 177]
abbrev dktX28_init_0 : List UInt8 := dkwX28_init_0 ++ []
theorem dksX28_init_0 : cX28_init.data.toList.drop 0 = dktX28_init_0 := by decide +kernel
theorem dX28_init_0 : decode cX28_init 0 = .ok (.aload_n 0, 1) := dk_42 (dk_at dksX28_init_0 0 rfl rfl)
theorem dX28_init_1 : decode cX28_init 1 = .ok (.aconst_null, 1) := dk_1 (dk_at dksX28_init_0 1 rfl rfl)
theorem dX28_init_2 : decode cX28_init 2 = .ok (.aload_n 2, 1) := dk_44 (dk_at dksX28_init_0 2 rfl rfl)
theorem dX28_init_3 : decode cX28_init 3 = .ok (.iconst 0, 1) := dk_3 (dk_at dksX28_init_0 3 rfl rfl)
theorem dX28_init_4 : decode cX28_init 4 = .ok (.iconst 0, 1) := dk_3 (dk_at dksX28_init_0 4 rfl rfl)
theorem dX28_init_5 : decode cX28_init 5 = .ok (.invokespecial 1, 3) := dk_183 0 1 (dk_at dksX28_init_0 5 rfl rfl)
theorem dX28_init_8 : decode cX28_init 8 = .ok (.aload_n 0, 1) := dk_42 (dk_at dksX28_init_0 8 rfl rfl)
theorem dX28_init_9 : decode cX28_init 9 = .ok (.iload_n 1, 1) := dk_27 (dk_at dksX28_init_0 9 rfl rfl)
theorem dX28_init_10 : decode cX28_init 10 = .ok (.putfield 7, 3) := dk_181 0 7 (dk_at dksX28_init_0 10 rfl rfl)
theorem dX28_init_13 : decode cX28_init 13 = .ok (.return_, 1) := dk_177 (dk_at dksX28_init_0 13 rfl rfl)
theorem q154 : (Jvm.Cond.initialized "PrinterClaims$Stop") ∈ lw_all := lw_g (lw_at lw_m1 56 rfl) rfl
theorem q240 : (Jvm.Cond.selects "PrinterClaims$Stop" ({ cls := "java/lang/Throwable", name := "fillInStackTrace", desc := "()Ljava/lang/Throwable;" } : Jvm.MethodName) ({ cls := "java/lang/Throwable", name := "fillInStackTrace", desc := "()Ljava/lang/Throwable;" } : Jvm.MethodName)) ∈ lw_all := lw_g (lw_at lw_m1 142 rfl) rfl
theorem q667 : (Jvm.Cond.selects "PrinterClaims$Stop" ({ cls := "java/lang/Object", name := "getClass", desc := "()Ljava/lang/Class;" } : Jvm.MethodName) ({ cls := "java/lang/Object", name := "getClass", desc := "()Ljava/lang/Class;" } : Jvm.MethodName)) ∈ lw_all := lw_g (lw_at lw_m3 89 rfl) rfl
theorem q2257 : (Jvm.Cond.instantiable "PrinterClaims$Stop" (7 : Nat)) ∈ lw_all := lw_g (lw_at lw_m9 239 rfl) rfl
theorem q2258 : (Jvm.Cond.castable "PrinterClaims$Stop" "PrinterClaims$Stop") ∈ lw_tbl := lw_at lw_m10 0 rfl
theorem q2259 : (Jvm.Cond.selects "PrinterClaims$Stop" ({ cls := "java/lang/Throwable", name := "fillInStackTrace", desc := "(I)Ljava/lang/Throwable;" } : Jvm.MethodName) ({ cls := "java/lang/Throwable", name := "fillInStackTrace", desc := "(I)Ljava/lang/Throwable;" } : Jvm.MethodName)) ∈ lw_all := lw_g (lw_at lw_m10 1 rfl) rfl
theorem q2260 : (Jvm.Cond.lays "PrinterClaims$Stop" "java/lang/Throwable" "cause" "Ljava/lang/Throwable;") ∈ lw_all := lw_g (lw_at lw_m10 2 rfl) rfl
theorem q2261 : (Jvm.Cond.lays "PrinterClaims$Stop" "java/lang/Throwable" "stackTrace" "[Ljava/lang/StackTraceElement;") ∈ lw_all := lw_g (lw_at lw_m10 3 rfl) rfl
theorem q2262 : (Jvm.Cond.lays "PrinterClaims$Stop" "java/lang/Throwable" "suppressedExceptions" "Ljava/util/List;") ∈ lw_all := lw_g (lw_at lw_m10 4 rfl) rfl
theorem q2263 : (Jvm.Cond.lays "PrinterClaims$Stop" "java/lang/Throwable" "detailMessage" "Ljava/lang/String;") ∈ lw_all := lw_g (lw_at lw_m10 5 rfl) rfl
theorem q2264 : (Jvm.Cond.lays "PrinterClaims$Stop" "java/lang/Throwable" "backtrace" "Ljava/lang/Object;") ∈ lw_all := lw_g (lw_at lw_m10 6 rfl) rfl
theorem q2266 : (Jvm.Cond.instanceMethod ({ cls := "PrinterClaims$Stop", name := "<init>", desc := "(ILPrinterClaims$Refusal;)V" } : Jvm.MethodName)) ∈ lw_all := lw_g (lw_at lw_m10 8 rfl) rfl
theorem q2267 : (Jvm.Cond.code ({ cls := "PrinterClaims$Stop", name := "<init>", desc := "(ILPrinterClaims$Refusal;)V" } : Jvm.MethodName) prog_26_method_1_code (3 : Nat) (Option.none : Option Jvm.ClassFile.FieldType)) ∈ lw_all := lw_g (lw_at lw_m10 9 rfl) rfl
theorem q2268 : (Jvm.Cond.methodLink "PrinterClaims$Stop" (1 : Nat) ({ cls := "java/lang/Exception", name := "<init>", desc := "(Ljava/lang/String;Ljava/lang/Throwable;ZZ)V" } : Jvm.MethodName)) ∈ lw_all := lw_g (lw_at lw_m10 10 rfl) rfl
theorem q2269 : (Jvm.Cond.fieldLink "PrinterClaims$Stop" (7 : Nat) "PrinterClaims$Stop" "done" "I") ∈ lw_all := lw_g (lw_at lw_m10 11 rfl) rfl
theorem q2271 : (Jvm.Cond.laysFinal "PrinterClaims$Stop" "PrinterClaims$Stop" "done" "I") ∈ lw_all := lw_g (lw_at lw_m10 13 rfl) rfl
theorem q2272 : (Jvm.Cond.soleField "PrinterClaims$Stop" "done") ∈ lw_all := lw_g (lw_at lw_m10 14 rfl) rfl
theorem q2273 : (Jvm.Cond.lays "PrinterClaims$Stop" "java/lang/Throwable" "depth" "I") ∈ lw_all := lw_g (lw_at lw_m10 15 rfl) rfl
theorem q2274 : (Jvm.Cond.superclass "PrinterClaims$Stop" "java/lang/Exception") ∈ lw_all := lw_g (lw_at lw_m10 16 rfl) rfl
theorem q2276 : (Jvm.Cond.sameMethod "PrinterClaims$Stop" "java/lang/Throwable" "getCause" "()Ljava/lang/Throwable;") ∈ lw_all := lw_g (lw_at lw_m10 18 rfl) rfl
theorem q2278 : (Jvm.Cond.selects "PrinterClaims$Stop" ({ cls := "PrinterClaims$Stop", name := "getCause", desc := "()Ljava/lang/Throwable;" } : Jvm.MethodName) ({ cls := "java/lang/Throwable", name := "getCause", desc := "()Ljava/lang/Throwable;" } : Jvm.MethodName)) ∈ lw_all := lw_g (lw_at lw_m10 20 rfl) rfl
theorem q2994 : (Jvm.Cond.castable "PrinterClaims$Stop" "java/lang/Object") ∈ lw_tbl := lw_at lw_m13 16 rfl
theorem in_X28 : ∀ w ∈ wsX280, w ∈ lw_all := lw_in wsX280 [2260, 2261, 2262, 2263, 2264, 2273, 2271] (by decide +kernel) (by decide +kernel)

/-! PrinterClaims$Reason$1 -/
set_option maxRecDepth 100000
def RX29 : String := "PrinterClaims$Reason$1"
abbrev cX29_thrown : ByteArray := prog_18_method_2_code
def yX29_thrown : MethodName := ⟨RX29, "thrown", "()Ljava/lang/RuntimeException;"⟩
def dkwX29_thrown_0 : List UInt8 := [187, 0, 7, 89, 183, 0, 9, 176]
abbrev dktX29_thrown_0 : List UInt8 := dkwX29_thrown_0 ++ []
theorem dksX29_thrown_0 : cX29_thrown.data.toList.drop 0 = dktX29_thrown_0 := by decide +kernel
theorem dX29_thrown_0 : decode cX29_thrown 0 = .ok (.new 7, 3) := dk_187 0 7 (dk_at dksX29_thrown_0 0 rfl rfl)
theorem dX29_thrown_3 : decode cX29_thrown 3 = .ok (.dup, 1) := dk_89 (dk_at dksX29_thrown_0 3 rfl rfl)
theorem dX29_thrown_4 : decode cX29_thrown 4 = .ok (.invokespecial 9, 3) := dk_183 0 9 (dk_at dksX29_thrown_0 4 rfl rfl)
theorem dX29_thrown_7 : decode cX29_thrown 7 = .ok (.areturn, 1) := dk_176 (dk_at dksX29_thrown_0 7 rfl rfl)
theorem q660 : (Jvm.Cond.selects "PrinterClaims$Reason$1" ({ cls := "java/lang/Object", name := "getClass", desc := "()Ljava/lang/Class;" } : Jvm.MethodName) ({ cls := "java/lang/Object", name := "getClass", desc := "()Ljava/lang/Class;" } : Jvm.MethodName)) ∈ lw_all := lw_g (lw_at lw_m3 82 rfl) rfl
theorem q1927 : (Jvm.Cond.selects "PrinterClaims$Reason$1" ({ cls := "PrinterClaims$Reason", name := "thrown", desc := "()Ljava/lang/RuntimeException;" } : Jvm.MethodName) ({ cls := "PrinterClaims$Reason$1", name := "thrown", desc := "()Ljava/lang/RuntimeException;" } : Jvm.MethodName)) ∈ lw_all := lw_g (lw_at lw_m8 149 rfl) rfl
theorem q1928 : (Jvm.Cond.instanceMethod ({ cls := "PrinterClaims$Reason$1", name := "thrown", desc := "()Ljava/lang/RuntimeException;" } : Jvm.MethodName)) ∈ lw_all := lw_g (lw_at lw_m8 150 rfl) rfl
theorem q1929 : (Jvm.Cond.code ({ cls := "PrinterClaims$Reason$1", name := "thrown", desc := "()Ljava/lang/RuntimeException;" } : Jvm.MethodName) prog_18_method_2_code (1 : Nat) (Option.some (Jvm.ClassFile.FieldType.object "java/lang/RuntimeException"))) ∈ lw_all := lw_g (lw_at lw_m8 151 rfl) rfl
theorem q1930 : (Jvm.Cond.classLink "PrinterClaims$Reason$1" (7 : Nat) "java/lang/IndexOutOfBoundsException") ∈ lw_all := lw_g (lw_at lw_m8 152 rfl) rfl
theorem q1931 : (Jvm.Cond.methodLink "PrinterClaims$Reason$1" (9 : Nat) ({ cls := "java/lang/IndexOutOfBoundsException", name := "<init>", desc := "()V" } : Jvm.MethodName)) ∈ lw_all := lw_g (lw_at lw_m8 153 rfl) rfl
theorem q2980 : (Jvm.Cond.castable "PrinterClaims$Reason$1" "java/lang/Object") ∈ lw_tbl := lw_at lw_m13 2 rfl

/-! PrinterClaims$Reason$2 -/
set_option maxRecDepth 100000
def RX30 : String := "PrinterClaims$Reason$2"
abbrev cX30_thrown : ByteArray := prog_19_method_2_code
def yX30_thrown : MethodName := ⟨RX30, "thrown", "()Ljava/lang/RuntimeException;"⟩
def dkwX30_thrown_0 : List UInt8 := [187, 0, 7, 89, 183, 0, 9, 176]
abbrev dktX30_thrown_0 : List UInt8 := dkwX30_thrown_0 ++ []
theorem dksX30_thrown_0 : cX30_thrown.data.toList.drop 0 = dktX30_thrown_0 := by decide +kernel
theorem dX30_thrown_0 : decode cX30_thrown 0 = .ok (.new 7, 3) := dk_187 0 7 (dk_at dksX30_thrown_0 0 rfl rfl)
theorem dX30_thrown_3 : decode cX30_thrown 3 = .ok (.dup, 1) := dk_89 (dk_at dksX30_thrown_0 3 rfl rfl)
theorem dX30_thrown_4 : decode cX30_thrown 4 = .ok (.invokespecial 9, 3) := dk_183 0 9 (dk_at dksX30_thrown_0 4 rfl rfl)
theorem dX30_thrown_7 : decode cX30_thrown 7 = .ok (.areturn, 1) := dk_176 (dk_at dksX30_thrown_0 7 rfl rfl)
theorem q661 : (Jvm.Cond.selects "PrinterClaims$Reason$2" ({ cls := "java/lang/Object", name := "getClass", desc := "()Ljava/lang/Class;" } : Jvm.MethodName) ({ cls := "java/lang/Object", name := "getClass", desc := "()Ljava/lang/Class;" } : Jvm.MethodName)) ∈ lw_all := lw_g (lw_at lw_m3 83 rfl) rfl
theorem q1932 : (Jvm.Cond.selects "PrinterClaims$Reason$2" ({ cls := "PrinterClaims$Reason", name := "thrown", desc := "()Ljava/lang/RuntimeException;" } : Jvm.MethodName) ({ cls := "PrinterClaims$Reason$2", name := "thrown", desc := "()Ljava/lang/RuntimeException;" } : Jvm.MethodName)) ∈ lw_all := lw_g (lw_at lw_m8 154 rfl) rfl
theorem q1933 : (Jvm.Cond.instanceMethod ({ cls := "PrinterClaims$Reason$2", name := "thrown", desc := "()Ljava/lang/RuntimeException;" } : Jvm.MethodName)) ∈ lw_all := lw_g (lw_at lw_m8 155 rfl) rfl
theorem q1934 : (Jvm.Cond.code ({ cls := "PrinterClaims$Reason$2", name := "thrown", desc := "()Ljava/lang/RuntimeException;" } : Jvm.MethodName) prog_19_method_2_code (1 : Nat) (Option.some (Jvm.ClassFile.FieldType.object "java/lang/RuntimeException"))) ∈ lw_all := lw_g (lw_at lw_m8 156 rfl) rfl
theorem q1935 : (Jvm.Cond.classLink "PrinterClaims$Reason$2" (7 : Nat) "java/lang/IllegalArgumentException") ∈ lw_all := lw_g (lw_at lw_m8 157 rfl) rfl
theorem q1936 : (Jvm.Cond.methodLink "PrinterClaims$Reason$2" (9 : Nat) ({ cls := "java/lang/IllegalArgumentException", name := "<init>", desc := "()V" } : Jvm.MethodName)) ∈ lw_all := lw_g (lw_at lw_m8 158 rfl) rfl
theorem q2982 : (Jvm.Cond.castable "PrinterClaims$Reason$2" "java/lang/Object") ∈ lw_tbl := lw_at lw_m13 4 rfl

/-! PrinterClaims$Reason$3 -/
set_option maxRecDepth 100000
def RX31 : String := "PrinterClaims$Reason$3"
abbrev cX31_thrown : ByteArray := prog_20_method_2_code
def yX31_thrown : MethodName := ⟨RX31, "thrown", "()Ljava/lang/RuntimeException;"⟩
def dkwX31_thrown_0 : List UInt8 := [187, 0, 7, 89, 183, 0, 9, 176]
abbrev dktX31_thrown_0 : List UInt8 := dkwX31_thrown_0 ++ []
theorem dksX31_thrown_0 : cX31_thrown.data.toList.drop 0 = dktX31_thrown_0 := by decide +kernel
theorem dX31_thrown_0 : decode cX31_thrown 0 = .ok (.new 7, 3) := dk_187 0 7 (dk_at dksX31_thrown_0 0 rfl rfl)
theorem dX31_thrown_3 : decode cX31_thrown 3 = .ok (.dup, 1) := dk_89 (dk_at dksX31_thrown_0 3 rfl rfl)
theorem dX31_thrown_4 : decode cX31_thrown 4 = .ok (.invokespecial 9, 3) := dk_183 0 9 (dk_at dksX31_thrown_0 4 rfl rfl)
theorem dX31_thrown_7 : decode cX31_thrown 7 = .ok (.areturn, 1) := dk_176 (dk_at dksX31_thrown_0 7 rfl rfl)
theorem q662 : (Jvm.Cond.selects "PrinterClaims$Reason$3" ({ cls := "java/lang/Object", name := "getClass", desc := "()Ljava/lang/Class;" } : Jvm.MethodName) ({ cls := "java/lang/Object", name := "getClass", desc := "()Ljava/lang/Class;" } : Jvm.MethodName)) ∈ lw_all := lw_g (lw_at lw_m3 84 rfl) rfl
theorem q1937 : (Jvm.Cond.selects "PrinterClaims$Reason$3" ({ cls := "PrinterClaims$Reason", name := "thrown", desc := "()Ljava/lang/RuntimeException;" } : Jvm.MethodName) ({ cls := "PrinterClaims$Reason$3", name := "thrown", desc := "()Ljava/lang/RuntimeException;" } : Jvm.MethodName)) ∈ lw_all := lw_g (lw_at lw_m8 159 rfl) rfl
theorem q1938 : (Jvm.Cond.instanceMethod ({ cls := "PrinterClaims$Reason$3", name := "thrown", desc := "()Ljava/lang/RuntimeException;" } : Jvm.MethodName)) ∈ lw_all := lw_g (lw_at lw_m8 160 rfl) rfl
theorem q1939 : (Jvm.Cond.code ({ cls := "PrinterClaims$Reason$3", name := "thrown", desc := "()Ljava/lang/RuntimeException;" } : Jvm.MethodName) prog_20_method_2_code (1 : Nat) (Option.some (Jvm.ClassFile.FieldType.object "java/lang/RuntimeException"))) ∈ lw_all := lw_g (lw_at lw_m8 161 rfl) rfl
theorem q1940 : (Jvm.Cond.classLink "PrinterClaims$Reason$3" (7 : Nat) "java/lang/IllegalStateException") ∈ lw_all := lw_g (lw_at lw_m8 162 rfl) rfl
theorem q1941 : (Jvm.Cond.methodLink "PrinterClaims$Reason$3" (9 : Nat) ({ cls := "java/lang/IllegalStateException", name := "<init>", desc := "()V" } : Jvm.MethodName)) ∈ lw_all := lw_g (lw_at lw_m8 163 rfl) rfl
theorem q2983 : (Jvm.Cond.castable "PrinterClaims$Reason$3" "java/lang/Object") ∈ lw_tbl := lw_at lw_m13 5 rfl

