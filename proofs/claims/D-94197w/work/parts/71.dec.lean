/-! DECODE ROWS BY BYTES: one lemma an opcode; a method's code is cut into short pieces once, and a row reads its own piece alone. -/
set_option maxRecDepth 100000
/-- the code has just these bytes from pc on -/
def DkAt (code : ByteArray) (pc : Nat) (bs : List UInt8) : Prop := ∀ (j : Nat) (b : UInt8), bs[j]? = some b → code.data.toList[pc + j]? = some b
/-- the piece W has the bytes bs from its place j on -/
def dkIn (W : List UInt8) (j : Nat) (bs : List UInt8) : Bool := decide ((W.drop j).take bs.length = bs)
theorem dk_seg {l W T : List UInt8} {o o2 : Nat} (h : l.drop o = W ++ T) (n : Nat) (hn : W.length = n) (ho : o + n = o2) : l.drop o2 = T := by
  subst ho
  rw [← List.drop_drop, h, List.drop_left' hn]
theorem dk_at {code : ByteArray} {W T bs : List UInt8} {o pc : Nat} (h : code.data.toList.drop o = W ++ T) (j : Nat) (hp : o + j = pc) (hw : dkIn W j bs = true) : DkAt code pc bs := by
  subst hp
  intro i b e
  have h1 := of_decide_eq_true hw
  have h2 : i < bs.length := (List.getElem?_eq_some_iff.mp e).1
  have h3 : W[j + i]? = some b := by
    rw [← h1, List.getElem?_take, if_pos h2, List.getElem?_drop] at e
    exact e
  have h4 : j + i < W.length := (List.getElem?_eq_some_iff.mp h3).1
  have h5 : (code.data.toList.drop o)[j + i]? = some b := by
    rw [h, List.getElem?_append_left h4]
    exact h3
  rw [List.getElem?_drop, ← Nat.add_assoc] at h5
  exact h5
theorem dk_u1 {A : ByteArray} {p : Nat} {b : UInt8} (h : A.data.toList[p]? = some b) : (Reader.u1 : Reader DecodeError Nat) A p = .ok (b.toNat, p + 1) := by
  obtain ⟨h1, h2⟩ := List.getElem?_eq_some_iff.mp h
  have h3 : p < A.size := by simpa using h1
  have h4 : A[p]'h3 = b := h2
  have e : (Reader.u1 : Reader DecodeError Nat) A p = (if h : p < A.size then .ok (A[p].toNat, p + 1) else .error (HasTruncated.truncated p)) := by
    show (do if h : p < A.size then do set (p + 1); Pure.pure A[p].toNat else MonadExcept.throw (HasTruncated.truncated p) : Reader DecodeError Nat) A p = _
    by_cases hi : p < A.size
    · rw [dif_pos hi, dif_pos hi]; rfl
    · rw [dif_neg hi, dif_neg hi]; rfl
  rw [e, dif_pos h3, h4]
theorem dk_bind {α β : Type} {r : Reader DecodeError α} {f : α → Reader DecodeError β} {A : ByteArray} {p s : Nat} {a : α} (h : r A p = .ok (a, s)) : (r >>= f) A p = f a A s := by
  show (do let (a, s) ← r A p; f a A s : Except DecodeError (β × Nat)) = _
  rw [h]
  rfl
theorem dk_map {α β : Type} {r : Reader DecodeError α} {g : α → β} {A : ByteArray} {p s : Nat} {a : α} (h : r A p = .ok (a, s)) : (g <$> r) A p = .ok (g a, s) := by
  show (do let (a, s) ← r A p; .ok (g a, s) : Except DecodeError (β × Nat)) = _
  rw [h]
  rfl
theorem dk_u2 {A : ByteArray} {p : Nat} {a b : UInt8} (h : A.data.toList[p]? = some a) (h2 : A.data.toList[p + 1]? = some b) : (Reader.u2 : Reader DecodeError Nat) A p = .ok (a.toNat * 256 + b.toNat, p + 2) := by
  show (Reader.u1 >>= fun hi => Reader.u1 >>= fun lo => Pure.pure (hi * 256 + lo) : Reader DecodeError Nat) A p = _
  rw [dk_bind (dk_u1 h), dk_bind (dk_u1 h2)]
  rfl
theorem dk_of {code : ByteArray} {pc n : Nat} {i : Instr} (h : Decoder.instr pc code pc = .ok (i, pc + n)) : decode code pc = .ok (i, n) := by
  have e : decode code pc = (match Decoder.instr pc code pc with | .error x => .error x | .ok (j, s) => .ok (j, s - pc)) := by
    show (do let (j, s) ← Decoder.instr pc code pc; Pure.pure (j, s - pc) : Except DecodeError (Instr × Nat)) = _
    cases Decoder.instr pc code pc <;> rfl
  rw [e, h]
  show Except.ok (i, pc + n - pc) = _
  rw [Nat.add_sub_cancel_left]
theorem dk_1 {code : ByteArray} {pc : Nat} (h : DkAt code pc [1]) : decode code pc = .ok (.aconst_null, 1) := dk_of ((dk_bind (dk_u1 (h 0 _ rfl))).trans rfl)
theorem dk_2 {code : ByteArray} {pc : Nat} (h : DkAt code pc [2]) : decode code pc = .ok (.iconst (-1), 1) := dk_of ((dk_bind (dk_u1 (h 0 _ rfl))).trans rfl)
theorem dk_3 {code : ByteArray} {pc : Nat} (h : DkAt code pc [3]) : decode code pc = .ok (.iconst 0, 1) := dk_of ((dk_bind (dk_u1 (h 0 _ rfl))).trans rfl)
theorem dk_4 {code : ByteArray} {pc : Nat} (h : DkAt code pc [4]) : decode code pc = .ok (.iconst 1, 1) := dk_of ((dk_bind (dk_u1 (h 0 _ rfl))).trans rfl)
theorem dk_5 {code : ByteArray} {pc : Nat} (h : DkAt code pc [5]) : decode code pc = .ok (.iconst 2, 1) := dk_of ((dk_bind (dk_u1 (h 0 _ rfl))).trans rfl)
theorem dk_6 {code : ByteArray} {pc : Nat} (h : DkAt code pc [6]) : decode code pc = .ok (.iconst 3, 1) := dk_of ((dk_bind (dk_u1 (h 0 _ rfl))).trans rfl)
theorem dk_7 {code : ByteArray} {pc : Nat} (h : DkAt code pc [7]) : decode code pc = .ok (.iconst 4, 1) := dk_of ((dk_bind (dk_u1 (h 0 _ rfl))).trans rfl)
theorem dk_8 {code : ByteArray} {pc : Nat} (h : DkAt code pc [8]) : decode code pc = .ok (.iconst 5, 1) := dk_of ((dk_bind (dk_u1 (h 0 _ rfl))).trans rfl)
theorem dk_9 {code : ByteArray} {pc : Nat} (h : DkAt code pc [9]) : decode code pc = .ok (.lconst 0, 1) := dk_of ((dk_bind (dk_u1 (h 0 _ rfl))).trans rfl)
theorem dk_10 {code : ByteArray} {pc : Nat} (h : DkAt code pc [10]) : decode code pc = .ok (.lconst 1, 1) := dk_of ((dk_bind (dk_u1 (h 0 _ rfl))).trans rfl)
theorem dk_16 {code : ByteArray} {pc : Nat} (a : UInt8) (h : DkAt code pc [16, a]) : decode code pc = .ok (.bipush (Reader.signed 8 a.toNat), 2) := dk_of ((dk_bind (dk_u1 (h 0 _ rfl))).trans ((dk_bind (dk_map (dk_u1 (h 1 _ rfl)))).trans rfl))
theorem dk_17 {code : ByteArray} {pc : Nat} (a b : UInt8) (h : DkAt code pc [17, a, b]) : decode code pc = .ok (.sipush (Reader.signed 16 (a.toNat * 256 + b.toNat)), 3) := dk_of ((dk_bind (dk_u1 (h 0 _ rfl))).trans ((dk_bind (dk_map (dk_u2 (h 1 _ rfl) (h 2 _ rfl)))).trans rfl))
theorem dk_18 {code : ByteArray} {pc : Nat} (a : UInt8) (h : DkAt code pc [18, a]) : decode code pc = .ok (.ldc a.toNat, 2) := dk_of ((dk_bind (dk_u1 (h 0 _ rfl))).trans ((dk_bind (dk_u1 (h 1 _ rfl))).trans rfl))
theorem dk_19 {code : ByteArray} {pc : Nat} (a b : UInt8) (h : DkAt code pc [19, a, b]) : decode code pc = .ok (.ldc_w (a.toNat * 256 + b.toNat), 3) := dk_of ((dk_bind (dk_u1 (h 0 _ rfl))).trans ((dk_bind (dk_u2 (h 1 _ rfl) (h 2 _ rfl))).trans rfl))
theorem dk_20 {code : ByteArray} {pc : Nat} (a b : UInt8) (h : DkAt code pc [20, a, b]) : decode code pc = .ok (.ldc2_w (a.toNat * 256 + b.toNat), 3) := dk_of ((dk_bind (dk_u1 (h 0 _ rfl))).trans ((dk_bind (dk_u2 (h 1 _ rfl) (h 2 _ rfl))).trans rfl))
theorem dk_21 {code : ByteArray} {pc : Nat} (a : UInt8) (h : DkAt code pc [21, a]) : decode code pc = .ok (.iload a.toNat, 2) := dk_of ((dk_bind (dk_u1 (h 0 _ rfl))).trans ((dk_bind (dk_u1 (h 1 _ rfl))).trans rfl))
theorem dk_22 {code : ByteArray} {pc : Nat} (a : UInt8) (h : DkAt code pc [22, a]) : decode code pc = .ok (.lload a.toNat, 2) := dk_of ((dk_bind (dk_u1 (h 0 _ rfl))).trans ((dk_bind (dk_u1 (h 1 _ rfl))).trans rfl))
theorem dk_25 {code : ByteArray} {pc : Nat} (a : UInt8) (h : DkAt code pc [25, a]) : decode code pc = .ok (.aload a.toNat, 2) := dk_of ((dk_bind (dk_u1 (h 0 _ rfl))).trans ((dk_bind (dk_u1 (h 1 _ rfl))).trans rfl))
theorem dk_26 {code : ByteArray} {pc : Nat} (h : DkAt code pc [26]) : decode code pc = .ok (.iload_n 0, 1) := dk_of ((dk_bind (dk_u1 (h 0 _ rfl))).trans rfl)
theorem dk_27 {code : ByteArray} {pc : Nat} (h : DkAt code pc [27]) : decode code pc = .ok (.iload_n 1, 1) := dk_of ((dk_bind (dk_u1 (h 0 _ rfl))).trans rfl)
theorem dk_28 {code : ByteArray} {pc : Nat} (h : DkAt code pc [28]) : decode code pc = .ok (.iload_n 2, 1) := dk_of ((dk_bind (dk_u1 (h 0 _ rfl))).trans rfl)
theorem dk_29 {code : ByteArray} {pc : Nat} (h : DkAt code pc [29]) : decode code pc = .ok (.iload_n 3, 1) := dk_of ((dk_bind (dk_u1 (h 0 _ rfl))).trans rfl)
theorem dk_30 {code : ByteArray} {pc : Nat} (h : DkAt code pc [30]) : decode code pc = .ok (.lload_n 0, 1) := dk_of ((dk_bind (dk_u1 (h 0 _ rfl))).trans rfl)
theorem dk_32 {code : ByteArray} {pc : Nat} (h : DkAt code pc [32]) : decode code pc = .ok (.lload_n 2, 1) := dk_of ((dk_bind (dk_u1 (h 0 _ rfl))).trans rfl)
theorem dk_42 {code : ByteArray} {pc : Nat} (h : DkAt code pc [42]) : decode code pc = .ok (.aload_n 0, 1) := dk_of ((dk_bind (dk_u1 (h 0 _ rfl))).trans rfl)
theorem dk_43 {code : ByteArray} {pc : Nat} (h : DkAt code pc [43]) : decode code pc = .ok (.aload_n 1, 1) := dk_of ((dk_bind (dk_u1 (h 0 _ rfl))).trans rfl)
theorem dk_44 {code : ByteArray} {pc : Nat} (h : DkAt code pc [44]) : decode code pc = .ok (.aload_n 2, 1) := dk_of ((dk_bind (dk_u1 (h 0 _ rfl))).trans rfl)
theorem dk_45 {code : ByteArray} {pc : Nat} (h : DkAt code pc [45]) : decode code pc = .ok (.aload_n 3, 1) := dk_of ((dk_bind (dk_u1 (h 0 _ rfl))).trans rfl)
theorem dk_46 {code : ByteArray} {pc : Nat} (h : DkAt code pc [46]) : decode code pc = .ok (.iaload, 1) := dk_of ((dk_bind (dk_u1 (h 0 _ rfl))).trans rfl)
theorem dk_47 {code : ByteArray} {pc : Nat} (h : DkAt code pc [47]) : decode code pc = .ok (.laload, 1) := dk_of ((dk_bind (dk_u1 (h 0 _ rfl))).trans rfl)
theorem dk_50 {code : ByteArray} {pc : Nat} (h : DkAt code pc [50]) : decode code pc = .ok (.aaload, 1) := dk_of ((dk_bind (dk_u1 (h 0 _ rfl))).trans rfl)
theorem dk_51 {code : ByteArray} {pc : Nat} (h : DkAt code pc [51]) : decode code pc = .ok (.baload, 1) := dk_of ((dk_bind (dk_u1 (h 0 _ rfl))).trans rfl)
theorem dk_54 {code : ByteArray} {pc : Nat} (a : UInt8) (h : DkAt code pc [54, a]) : decode code pc = .ok (.istore a.toNat, 2) := dk_of ((dk_bind (dk_u1 (h 0 _ rfl))).trans ((dk_bind (dk_u1 (h 1 _ rfl))).trans rfl))
theorem dk_55 {code : ByteArray} {pc : Nat} (a : UInt8) (h : DkAt code pc [55, a]) : decode code pc = .ok (.lstore a.toNat, 2) := dk_of ((dk_bind (dk_u1 (h 0 _ rfl))).trans ((dk_bind (dk_u1 (h 1 _ rfl))).trans rfl))
theorem dk_58 {code : ByteArray} {pc : Nat} (a : UInt8) (h : DkAt code pc [58, a]) : decode code pc = .ok (.astore a.toNat, 2) := dk_of ((dk_bind (dk_u1 (h 0 _ rfl))).trans ((dk_bind (dk_u1 (h 1 _ rfl))).trans rfl))
theorem dk_59 {code : ByteArray} {pc : Nat} (h : DkAt code pc [59]) : decode code pc = .ok (.istore_n 0, 1) := dk_of ((dk_bind (dk_u1 (h 0 _ rfl))).trans rfl)
theorem dk_60 {code : ByteArray} {pc : Nat} (h : DkAt code pc [60]) : decode code pc = .ok (.istore_n 1, 1) := dk_of ((dk_bind (dk_u1 (h 0 _ rfl))).trans rfl)
theorem dk_61 {code : ByteArray} {pc : Nat} (h : DkAt code pc [61]) : decode code pc = .ok (.istore_n 2, 1) := dk_of ((dk_bind (dk_u1 (h 0 _ rfl))).trans rfl)
theorem dk_62 {code : ByteArray} {pc : Nat} (h : DkAt code pc [62]) : decode code pc = .ok (.istore_n 3, 1) := dk_of ((dk_bind (dk_u1 (h 0 _ rfl))).trans rfl)
theorem dk_76 {code : ByteArray} {pc : Nat} (h : DkAt code pc [76]) : decode code pc = .ok (.astore_n 1, 1) := dk_of ((dk_bind (dk_u1 (h 0 _ rfl))).trans rfl)
theorem dk_77 {code : ByteArray} {pc : Nat} (h : DkAt code pc [77]) : decode code pc = .ok (.astore_n 2, 1) := dk_of ((dk_bind (dk_u1 (h 0 _ rfl))).trans rfl)
theorem dk_78 {code : ByteArray} {pc : Nat} (h : DkAt code pc [78]) : decode code pc = .ok (.astore_n 3, 1) := dk_of ((dk_bind (dk_u1 (h 0 _ rfl))).trans rfl)
theorem dk_79 {code : ByteArray} {pc : Nat} (h : DkAt code pc [79]) : decode code pc = .ok (.iastore, 1) := dk_of ((dk_bind (dk_u1 (h 0 _ rfl))).trans rfl)
theorem dk_80 {code : ByteArray} {pc : Nat} (h : DkAt code pc [80]) : decode code pc = .ok (.lastore, 1) := dk_of ((dk_bind (dk_u1 (h 0 _ rfl))).trans rfl)
theorem dk_83 {code : ByteArray} {pc : Nat} (h : DkAt code pc [83]) : decode code pc = .ok (.aastore, 1) := dk_of ((dk_bind (dk_u1 (h 0 _ rfl))).trans rfl)
theorem dk_84 {code : ByteArray} {pc : Nat} (h : DkAt code pc [84]) : decode code pc = .ok (.bastore, 1) := dk_of ((dk_bind (dk_u1 (h 0 _ rfl))).trans rfl)
theorem dk_87 {code : ByteArray} {pc : Nat} (h : DkAt code pc [87]) : decode code pc = .ok (.pop, 1) := dk_of ((dk_bind (dk_u1 (h 0 _ rfl))).trans rfl)
theorem dk_89 {code : ByteArray} {pc : Nat} (h : DkAt code pc [89]) : decode code pc = .ok (.dup, 1) := dk_of ((dk_bind (dk_u1 (h 0 _ rfl))).trans rfl)
theorem dk_92 {code : ByteArray} {pc : Nat} (h : DkAt code pc [92]) : decode code pc = .ok (.dup2, 1) := dk_of ((dk_bind (dk_u1 (h 0 _ rfl))).trans rfl)
theorem dk_96 {code : ByteArray} {pc : Nat} (h : DkAt code pc [96]) : decode code pc = .ok (.iadd, 1) := dk_of ((dk_bind (dk_u1 (h 0 _ rfl))).trans rfl)
theorem dk_97 {code : ByteArray} {pc : Nat} (h : DkAt code pc [97]) : decode code pc = .ok (.ladd, 1) := dk_of ((dk_bind (dk_u1 (h 0 _ rfl))).trans rfl)
theorem dk_100 {code : ByteArray} {pc : Nat} (h : DkAt code pc [100]) : decode code pc = .ok (.isub, 1) := dk_of ((dk_bind (dk_u1 (h 0 _ rfl))).trans rfl)
theorem dk_104 {code : ByteArray} {pc : Nat} (h : DkAt code pc [104]) : decode code pc = .ok (.imul, 1) := dk_of ((dk_bind (dk_u1 (h 0 _ rfl))).trans rfl)
theorem dk_105 {code : ByteArray} {pc : Nat} (h : DkAt code pc [105]) : decode code pc = .ok (.lmul, 1) := dk_of ((dk_bind (dk_u1 (h 0 _ rfl))).trans rfl)
theorem dk_108 {code : ByteArray} {pc : Nat} (h : DkAt code pc [108]) : decode code pc = .ok (.idiv, 1) := dk_of ((dk_bind (dk_u1 (h 0 _ rfl))).trans rfl)
theorem dk_109 {code : ByteArray} {pc : Nat} (h : DkAt code pc [109]) : decode code pc = .ok (.ldiv, 1) := dk_of ((dk_bind (dk_u1 (h 0 _ rfl))).trans rfl)
theorem dk_112 {code : ByteArray} {pc : Nat} (h : DkAt code pc [112]) : decode code pc = .ok (.irem, 1) := dk_of ((dk_bind (dk_u1 (h 0 _ rfl))).trans rfl)
theorem dk_113 {code : ByteArray} {pc : Nat} (h : DkAt code pc [113]) : decode code pc = .ok (.lrem, 1) := dk_of ((dk_bind (dk_u1 (h 0 _ rfl))).trans rfl)
theorem dk_116 {code : ByteArray} {pc : Nat} (h : DkAt code pc [116]) : decode code pc = .ok (.ineg, 1) := dk_of ((dk_bind (dk_u1 (h 0 _ rfl))).trans rfl)
theorem dk_120 {code : ByteArray} {pc : Nat} (h : DkAt code pc [120]) : decode code pc = .ok (.ishl, 1) := dk_of ((dk_bind (dk_u1 (h 0 _ rfl))).trans rfl)
theorem dk_121 {code : ByteArray} {pc : Nat} (h : DkAt code pc [121]) : decode code pc = .ok (.lshl, 1) := dk_of ((dk_bind (dk_u1 (h 0 _ rfl))).trans rfl)
theorem dk_122 {code : ByteArray} {pc : Nat} (h : DkAt code pc [122]) : decode code pc = .ok (.ishr, 1) := dk_of ((dk_bind (dk_u1 (h 0 _ rfl))).trans rfl)
theorem dk_124 {code : ByteArray} {pc : Nat} (h : DkAt code pc [124]) : decode code pc = .ok (.iushr, 1) := dk_of ((dk_bind (dk_u1 (h 0 _ rfl))).trans rfl)
theorem dk_126 {code : ByteArray} {pc : Nat} (h : DkAt code pc [126]) : decode code pc = .ok (.iand, 1) := dk_of ((dk_bind (dk_u1 (h 0 _ rfl))).trans rfl)
theorem dk_128 {code : ByteArray} {pc : Nat} (h : DkAt code pc [128]) : decode code pc = .ok (.ior, 1) := dk_of ((dk_bind (dk_u1 (h 0 _ rfl))).trans rfl)
theorem dk_130 {code : ByteArray} {pc : Nat} (h : DkAt code pc [130]) : decode code pc = .ok (.ixor, 1) := dk_of ((dk_bind (dk_u1 (h 0 _ rfl))).trans rfl)
theorem dk_132 {code : ByteArray} {pc : Nat} (a b : UInt8) (h : DkAt code pc [132, a, b]) : decode code pc = .ok (.iinc a.toNat (Reader.signed 8 b.toNat), 3) := dk_of ((dk_bind (dk_u1 (h 0 _ rfl))).trans ((dk_bind (dk_u1 (h 1 _ rfl))).trans ((dk_bind (dk_map (dk_u1 (h 2 _ rfl)))).trans rfl)))
theorem dk_133 {code : ByteArray} {pc : Nat} (h : DkAt code pc [133]) : decode code pc = .ok (.i2l, 1) := dk_of ((dk_bind (dk_u1 (h 0 _ rfl))).trans rfl)
theorem dk_145 {code : ByteArray} {pc : Nat} (h : DkAt code pc [145]) : decode code pc = .ok (.i2b, 1) := dk_of ((dk_bind (dk_u1 (h 0 _ rfl))).trans rfl)
theorem dk_146 {code : ByteArray} {pc : Nat} (h : DkAt code pc [146]) : decode code pc = .ok (.i2c, 1) := dk_of ((dk_bind (dk_u1 (h 0 _ rfl))).trans rfl)
theorem dk_148 {code : ByteArray} {pc : Nat} (h : DkAt code pc [148]) : decode code pc = .ok (.lcmp, 1) := dk_of ((dk_bind (dk_u1 (h 0 _ rfl))).trans rfl)
theorem dk_153 {code : ByteArray} {pc : Nat} (a b : UInt8) (h : DkAt code pc [153, a, b]) : decode code pc = .ok (.ifCond .eq (Reader.signed 16 (a.toNat * 256 + b.toNat)), 3) := dk_of ((dk_bind (dk_u1 (h 0 _ rfl))).trans ((dk_bind (dk_map (dk_u2 (h 1 _ rfl) (h 2 _ rfl)))).trans rfl))
theorem dk_154 {code : ByteArray} {pc : Nat} (a b : UInt8) (h : DkAt code pc [154, a, b]) : decode code pc = .ok (.ifCond .ne (Reader.signed 16 (a.toNat * 256 + b.toNat)), 3) := dk_of ((dk_bind (dk_u1 (h 0 _ rfl))).trans ((dk_bind (dk_map (dk_u2 (h 1 _ rfl) (h 2 _ rfl)))).trans rfl))
theorem dk_155 {code : ByteArray} {pc : Nat} (a b : UInt8) (h : DkAt code pc [155, a, b]) : decode code pc = .ok (.ifCond .lt (Reader.signed 16 (a.toNat * 256 + b.toNat)), 3) := dk_of ((dk_bind (dk_u1 (h 0 _ rfl))).trans ((dk_bind (dk_map (dk_u2 (h 1 _ rfl) (h 2 _ rfl)))).trans rfl))
theorem dk_156 {code : ByteArray} {pc : Nat} (a b : UInt8) (h : DkAt code pc [156, a, b]) : decode code pc = .ok (.ifCond .ge (Reader.signed 16 (a.toNat * 256 + b.toNat)), 3) := dk_of ((dk_bind (dk_u1 (h 0 _ rfl))).trans ((dk_bind (dk_map (dk_u2 (h 1 _ rfl) (h 2 _ rfl)))).trans rfl))
theorem dk_157 {code : ByteArray} {pc : Nat} (a b : UInt8) (h : DkAt code pc [157, a, b]) : decode code pc = .ok (.ifCond .gt (Reader.signed 16 (a.toNat * 256 + b.toNat)), 3) := dk_of ((dk_bind (dk_u1 (h 0 _ rfl))).trans ((dk_bind (dk_map (dk_u2 (h 1 _ rfl) (h 2 _ rfl)))).trans rfl))
theorem dk_158 {code : ByteArray} {pc : Nat} (a b : UInt8) (h : DkAt code pc [158, a, b]) : decode code pc = .ok (.ifCond .le (Reader.signed 16 (a.toNat * 256 + b.toNat)), 3) := dk_of ((dk_bind (dk_u1 (h 0 _ rfl))).trans ((dk_bind (dk_map (dk_u2 (h 1 _ rfl) (h 2 _ rfl)))).trans rfl))
theorem dk_159 {code : ByteArray} {pc : Nat} (a b : UInt8) (h : DkAt code pc [159, a, b]) : decode code pc = .ok (.if_icmp .eq (Reader.signed 16 (a.toNat * 256 + b.toNat)), 3) := dk_of ((dk_bind (dk_u1 (h 0 _ rfl))).trans ((dk_bind (dk_map (dk_u2 (h 1 _ rfl) (h 2 _ rfl)))).trans rfl))
theorem dk_160 {code : ByteArray} {pc : Nat} (a b : UInt8) (h : DkAt code pc [160, a, b]) : decode code pc = .ok (.if_icmp .ne (Reader.signed 16 (a.toNat * 256 + b.toNat)), 3) := dk_of ((dk_bind (dk_u1 (h 0 _ rfl))).trans ((dk_bind (dk_map (dk_u2 (h 1 _ rfl) (h 2 _ rfl)))).trans rfl))
theorem dk_161 {code : ByteArray} {pc : Nat} (a b : UInt8) (h : DkAt code pc [161, a, b]) : decode code pc = .ok (.if_icmp .lt (Reader.signed 16 (a.toNat * 256 + b.toNat)), 3) := dk_of ((dk_bind (dk_u1 (h 0 _ rfl))).trans ((dk_bind (dk_map (dk_u2 (h 1 _ rfl) (h 2 _ rfl)))).trans rfl))
theorem dk_162 {code : ByteArray} {pc : Nat} (a b : UInt8) (h : DkAt code pc [162, a, b]) : decode code pc = .ok (.if_icmp .ge (Reader.signed 16 (a.toNat * 256 + b.toNat)), 3) := dk_of ((dk_bind (dk_u1 (h 0 _ rfl))).trans ((dk_bind (dk_map (dk_u2 (h 1 _ rfl) (h 2 _ rfl)))).trans rfl))
theorem dk_163 {code : ByteArray} {pc : Nat} (a b : UInt8) (h : DkAt code pc [163, a, b]) : decode code pc = .ok (.if_icmp .gt (Reader.signed 16 (a.toNat * 256 + b.toNat)), 3) := dk_of ((dk_bind (dk_u1 (h 0 _ rfl))).trans ((dk_bind (dk_map (dk_u2 (h 1 _ rfl) (h 2 _ rfl)))).trans rfl))
theorem dk_164 {code : ByteArray} {pc : Nat} (a b : UInt8) (h : DkAt code pc [164, a, b]) : decode code pc = .ok (.if_icmp .le (Reader.signed 16 (a.toNat * 256 + b.toNat)), 3) := dk_of ((dk_bind (dk_u1 (h 0 _ rfl))).trans ((dk_bind (dk_map (dk_u2 (h 1 _ rfl) (h 2 _ rfl)))).trans rfl))
theorem dk_167 {code : ByteArray} {pc : Nat} (a b : UInt8) (h : DkAt code pc [167, a, b]) : decode code pc = .ok (.goto (Reader.signed 16 (a.toNat * 256 + b.toNat)), 3) := dk_of ((dk_bind (dk_u1 (h 0 _ rfl))).trans ((dk_bind (dk_map (dk_u2 (h 1 _ rfl) (h 2 _ rfl)))).trans rfl))
theorem dk_172 {code : ByteArray} {pc : Nat} (h : DkAt code pc [172]) : decode code pc = .ok (.ireturn, 1) := dk_of ((dk_bind (dk_u1 (h 0 _ rfl))).trans rfl)
theorem dk_173 {code : ByteArray} {pc : Nat} (h : DkAt code pc [173]) : decode code pc = .ok (.lreturn, 1) := dk_of ((dk_bind (dk_u1 (h 0 _ rfl))).trans rfl)
theorem dk_176 {code : ByteArray} {pc : Nat} (h : DkAt code pc [176]) : decode code pc = .ok (.areturn, 1) := dk_of ((dk_bind (dk_u1 (h 0 _ rfl))).trans rfl)
theorem dk_177 {code : ByteArray} {pc : Nat} (h : DkAt code pc [177]) : decode code pc = .ok (.return_, 1) := dk_of ((dk_bind (dk_u1 (h 0 _ rfl))).trans rfl)
theorem dk_178 {code : ByteArray} {pc : Nat} (a b : UInt8) (h : DkAt code pc [178, a, b]) : decode code pc = .ok (.getstatic (a.toNat * 256 + b.toNat), 3) := dk_of ((dk_bind (dk_u1 (h 0 _ rfl))).trans ((dk_bind (dk_u2 (h 1 _ rfl) (h 2 _ rfl))).trans rfl))
theorem dk_180 {code : ByteArray} {pc : Nat} (a b : UInt8) (h : DkAt code pc [180, a, b]) : decode code pc = .ok (.getfield (a.toNat * 256 + b.toNat), 3) := dk_of ((dk_bind (dk_u1 (h 0 _ rfl))).trans ((dk_bind (dk_u2 (h 1 _ rfl) (h 2 _ rfl))).trans rfl))
theorem dk_181 {code : ByteArray} {pc : Nat} (a b : UInt8) (h : DkAt code pc [181, a, b]) : decode code pc = .ok (.putfield (a.toNat * 256 + b.toNat), 3) := dk_of ((dk_bind (dk_u1 (h 0 _ rfl))).trans ((dk_bind (dk_u2 (h 1 _ rfl) (h 2 _ rfl))).trans rfl))
theorem dk_182 {code : ByteArray} {pc : Nat} (a b : UInt8) (h : DkAt code pc [182, a, b]) : decode code pc = .ok (.invokevirtual (a.toNat * 256 + b.toNat), 3) := dk_of ((dk_bind (dk_u1 (h 0 _ rfl))).trans ((dk_bind (dk_u2 (h 1 _ rfl) (h 2 _ rfl))).trans rfl))
theorem dk_183 {code : ByteArray} {pc : Nat} (a b : UInt8) (h : DkAt code pc [183, a, b]) : decode code pc = .ok (.invokespecial (a.toNat * 256 + b.toNat), 3) := dk_of ((dk_bind (dk_u1 (h 0 _ rfl))).trans ((dk_bind (dk_u2 (h 1 _ rfl) (h 2 _ rfl))).trans rfl))
theorem dk_184 {code : ByteArray} {pc : Nat} (a b : UInt8) (h : DkAt code pc [184, a, b]) : decode code pc = .ok (.invokestatic (a.toNat * 256 + b.toNat), 3) := dk_of ((dk_bind (dk_u1 (h 0 _ rfl))).trans ((dk_bind (dk_u2 (h 1 _ rfl) (h 2 _ rfl))).trans rfl))
theorem dk_187 {code : ByteArray} {pc : Nat} (a b : UInt8) (h : DkAt code pc [187, a, b]) : decode code pc = .ok (.new (a.toNat * 256 + b.toNat), 3) := dk_of ((dk_bind (dk_u1 (h 0 _ rfl))).trans ((dk_bind (dk_u2 (h 1 _ rfl) (h 2 _ rfl))).trans rfl))
theorem dk_188_4 {code : ByteArray} {pc : Nat} (h : DkAt code pc [188, 4]) : decode code pc = .ok (.newarray .boolean, 2) := dk_of ((dk_bind (dk_u1 (h 0 _ rfl))).trans ((dk_bind (dk_u1 (h 1 _ rfl))).trans rfl))
theorem dk_188_8 {code : ByteArray} {pc : Nat} (h : DkAt code pc [188, 8]) : decode code pc = .ok (.newarray .byte, 2) := dk_of ((dk_bind (dk_u1 (h 0 _ rfl))).trans ((dk_bind (dk_u1 (h 1 _ rfl))).trans rfl))
theorem dk_188_10 {code : ByteArray} {pc : Nat} (h : DkAt code pc [188, 10]) : decode code pc = .ok (.newarray .int, 2) := dk_of ((dk_bind (dk_u1 (h 0 _ rfl))).trans ((dk_bind (dk_u1 (h 1 _ rfl))).trans rfl))
theorem dk_188_11 {code : ByteArray} {pc : Nat} (h : DkAt code pc [188, 11]) : decode code pc = .ok (.newarray .long, 2) := dk_of ((dk_bind (dk_u1 (h 0 _ rfl))).trans ((dk_bind (dk_u1 (h 1 _ rfl))).trans rfl))
theorem dk_189 {code : ByteArray} {pc : Nat} (a b : UInt8) (h : DkAt code pc [189, a, b]) : decode code pc = .ok (.anewarray (a.toNat * 256 + b.toNat), 3) := dk_of ((dk_bind (dk_u1 (h 0 _ rfl))).trans ((dk_bind (dk_u2 (h 1 _ rfl) (h 2 _ rfl))).trans rfl))
theorem dk_190 {code : ByteArray} {pc : Nat} (h : DkAt code pc [190]) : decode code pc = .ok (.arraylength, 1) := dk_of ((dk_bind (dk_u1 (h 0 _ rfl))).trans rfl)
theorem dk_191 {code : ByteArray} {pc : Nat} (h : DkAt code pc [191]) : decode code pc = .ok (.athrow, 1) := dk_of ((dk_bind (dk_u1 (h 0 _ rfl))).trans rfl)
theorem dk_198 {code : ByteArray} {pc : Nat} (a b : UInt8) (h : DkAt code pc [198, a, b]) : decode code pc = .ok (.ifnull (Reader.signed 16 (a.toNat * 256 + b.toNat)), 3) := dk_of ((dk_bind (dk_u1 (h 0 _ rfl))).trans ((dk_bind (dk_map (dk_u2 (h 1 _ rfl) (h 2 _ rfl)))).trans rfl))
theorem dk_199 {code : ByteArray} {pc : Nat} (a b : UInt8) (h : DkAt code pc [199, a, b]) : decode code pc = .ok (.ifnonnull (Reader.signed 16 (a.toNat * 256 + b.toNat)), 3) := dk_of ((dk_bind (dk_u1 (h 0 _ rfl))).trans ((dk_bind (dk_map (dk_u2 (h 1 _ rfl) (h 2 _ rfl)))).trans rfl))

def dkwJ13_bitCount_2 : List UInt8 := [26, 16, 63, 126, 172]
abbrev dktJ13_bitCount_2 : List UInt8 := dkwJ13_bitCount_2 ++ []
def dkwJ13_bitCount_1 : List UInt8 := [26, 26, 7, 124, 96, 19, 1, 11, 126, 59, 26, 26, 16, 8, 124, 96, 59, 26, 26, 16, 16, 124, 96, 59]
abbrev dktJ13_bitCount_1 : List UInt8 := dkwJ13_bitCount_1 ++ dktJ13_bitCount_2
def dkwJ13_bitCount_0 : List UInt8 := [26, 26, 4, 124, 19, 1, 9, 126, 100, 59, 26, 19, 1, 10, 126, 26, 5, 124, 19, 1, 10, 126, 96, 59]
abbrev dktJ13_bitCount_0 : List UInt8 := dkwJ13_bitCount_0 ++ dktJ13_bitCount_1
theorem dksJ13_bitCount_0 : cJ13_bitCount.data.toList.drop 0 = dktJ13_bitCount_0 := by decide +kernel
theorem dksJ13_bitCount_1 : cJ13_bitCount.data.toList.drop 24 = dktJ13_bitCount_1 := dk_seg dksJ13_bitCount_0 24 rfl rfl
theorem dksJ13_bitCount_2 : cJ13_bitCount.data.toList.drop 48 = dktJ13_bitCount_2 := dk_seg dksJ13_bitCount_1 24 rfl rfl
theorem dJ13_bitCount_0 : decode cJ13_bitCount 0 = .ok (.iload_n 0, 1) := dk_26 (dk_at dksJ13_bitCount_0 0 rfl rfl)
theorem dJ13_bitCount_1 : decode cJ13_bitCount 1 = .ok (.iload_n 0, 1) := dk_26 (dk_at dksJ13_bitCount_0 1 rfl rfl)
theorem dJ13_bitCount_2 : decode cJ13_bitCount 2 = .ok (.iconst 1, 1) := dk_4 (dk_at dksJ13_bitCount_0 2 rfl rfl)
theorem dJ13_bitCount_3 : decode cJ13_bitCount 3 = .ok (.iushr, 1) := dk_124 (dk_at dksJ13_bitCount_0 3 rfl rfl)
theorem dJ13_bitCount_4 : decode cJ13_bitCount 4 = .ok (.ldc_w 265, 3) := dk_19 1 9 (dk_at dksJ13_bitCount_0 4 rfl rfl)
theorem dJ13_bitCount_7 : decode cJ13_bitCount 7 = .ok (.iand, 1) := dk_126 (dk_at dksJ13_bitCount_0 7 rfl rfl)
theorem dJ13_bitCount_8 : decode cJ13_bitCount 8 = .ok (.isub, 1) := dk_100 (dk_at dksJ13_bitCount_0 8 rfl rfl)
theorem dJ13_bitCount_9 : decode cJ13_bitCount 9 = .ok (.istore_n 0, 1) := dk_59 (dk_at dksJ13_bitCount_0 9 rfl rfl)
theorem dJ13_bitCount_10 : decode cJ13_bitCount 10 = .ok (.iload_n 0, 1) := dk_26 (dk_at dksJ13_bitCount_0 10 rfl rfl)
theorem dJ13_bitCount_11 : decode cJ13_bitCount 11 = .ok (.ldc_w 266, 3) := dk_19 1 10 (dk_at dksJ13_bitCount_0 11 rfl rfl)
theorem dJ13_bitCount_14 : decode cJ13_bitCount 14 = .ok (.iand, 1) := dk_126 (dk_at dksJ13_bitCount_0 14 rfl rfl)
theorem dJ13_bitCount_15 : decode cJ13_bitCount 15 = .ok (.iload_n 0, 1) := dk_26 (dk_at dksJ13_bitCount_0 15 rfl rfl)
theorem dJ13_bitCount_16 : decode cJ13_bitCount 16 = .ok (.iconst 2, 1) := dk_5 (dk_at dksJ13_bitCount_0 16 rfl rfl)
theorem dJ13_bitCount_17 : decode cJ13_bitCount 17 = .ok (.iushr, 1) := dk_124 (dk_at dksJ13_bitCount_0 17 rfl rfl)
theorem dJ13_bitCount_18 : decode cJ13_bitCount 18 = .ok (.ldc_w 266, 3) := dk_19 1 10 (dk_at dksJ13_bitCount_0 18 rfl rfl)
theorem dJ13_bitCount_21 : decode cJ13_bitCount 21 = .ok (.iand, 1) := dk_126 (dk_at dksJ13_bitCount_0 21 rfl rfl)
theorem dJ13_bitCount_22 : decode cJ13_bitCount 22 = .ok (.iadd, 1) := dk_96 (dk_at dksJ13_bitCount_0 22 rfl rfl)
theorem dJ13_bitCount_23 : decode cJ13_bitCount 23 = .ok (.istore_n 0, 1) := dk_59 (dk_at dksJ13_bitCount_0 23 rfl rfl)
theorem dJ13_bitCount_24 : decode cJ13_bitCount 24 = .ok (.iload_n 0, 1) := dk_26 (dk_at dksJ13_bitCount_1 0 rfl rfl)
theorem dJ13_bitCount_25 : decode cJ13_bitCount 25 = .ok (.iload_n 0, 1) := dk_26 (dk_at dksJ13_bitCount_1 1 rfl rfl)
theorem dJ13_bitCount_26 : decode cJ13_bitCount 26 = .ok (.iconst 4, 1) := dk_7 (dk_at dksJ13_bitCount_1 2 rfl rfl)
theorem dJ13_bitCount_27 : decode cJ13_bitCount 27 = .ok (.iushr, 1) := dk_124 (dk_at dksJ13_bitCount_1 3 rfl rfl)
theorem dJ13_bitCount_28 : decode cJ13_bitCount 28 = .ok (.iadd, 1) := dk_96 (dk_at dksJ13_bitCount_1 4 rfl rfl)
theorem dJ13_bitCount_29 : decode cJ13_bitCount 29 = .ok (.ldc_w 267, 3) := dk_19 1 11 (dk_at dksJ13_bitCount_1 5 rfl rfl)
theorem dJ13_bitCount_32 : decode cJ13_bitCount 32 = .ok (.iand, 1) := dk_126 (dk_at dksJ13_bitCount_1 8 rfl rfl)
theorem dJ13_bitCount_33 : decode cJ13_bitCount 33 = .ok (.istore_n 0, 1) := dk_59 (dk_at dksJ13_bitCount_1 9 rfl rfl)
theorem dJ13_bitCount_34 : decode cJ13_bitCount 34 = .ok (.iload_n 0, 1) := dk_26 (dk_at dksJ13_bitCount_1 10 rfl rfl)
theorem dJ13_bitCount_35 : decode cJ13_bitCount 35 = .ok (.iload_n 0, 1) := dk_26 (dk_at dksJ13_bitCount_1 11 rfl rfl)
theorem dJ13_bitCount_36 : decode cJ13_bitCount 36 = .ok (.bipush 8, 2) := dk_16 8 (dk_at dksJ13_bitCount_1 12 rfl rfl)
theorem dJ13_bitCount_38 : decode cJ13_bitCount 38 = .ok (.iushr, 1) := dk_124 (dk_at dksJ13_bitCount_1 14 rfl rfl)
theorem dJ13_bitCount_39 : decode cJ13_bitCount 39 = .ok (.iadd, 1) := dk_96 (dk_at dksJ13_bitCount_1 15 rfl rfl)
theorem dJ13_bitCount_40 : decode cJ13_bitCount 40 = .ok (.istore_n 0, 1) := dk_59 (dk_at dksJ13_bitCount_1 16 rfl rfl)
theorem dJ13_bitCount_41 : decode cJ13_bitCount 41 = .ok (.iload_n 0, 1) := dk_26 (dk_at dksJ13_bitCount_1 17 rfl rfl)
theorem dJ13_bitCount_42 : decode cJ13_bitCount 42 = .ok (.iload_n 0, 1) := dk_26 (dk_at dksJ13_bitCount_1 18 rfl rfl)
theorem dJ13_bitCount_43 : decode cJ13_bitCount 43 = .ok (.bipush 16, 2) := dk_16 16 (dk_at dksJ13_bitCount_1 19 rfl rfl)
theorem dJ13_bitCount_45 : decode cJ13_bitCount 45 = .ok (.iushr, 1) := dk_124 (dk_at dksJ13_bitCount_1 21 rfl rfl)
theorem dJ13_bitCount_46 : decode cJ13_bitCount 46 = .ok (.iadd, 1) := dk_96 (dk_at dksJ13_bitCount_1 22 rfl rfl)
theorem dJ13_bitCount_47 : decode cJ13_bitCount 47 = .ok (.istore_n 0, 1) := dk_59 (dk_at dksJ13_bitCount_1 23 rfl rfl)
theorem dJ13_bitCount_48 : decode cJ13_bitCount 48 = .ok (.iload_n 0, 1) := dk_26 (dk_at dksJ13_bitCount_2 0 rfl rfl)
theorem dJ13_bitCount_49 : decode cJ13_bitCount 49 = .ok (.bipush 63, 2) := dk_16 63 (dk_at dksJ13_bitCount_2 1 rfl rfl)
theorem dJ13_bitCount_51 : decode cJ13_bitCount 51 = .ok (.iand, 1) := dk_126 (dk_at dksJ13_bitCount_2 3 rfl rfl)
theorem dJ13_bitCount_52 : decode cJ13_bitCount 52 = .ok (.ireturn, 1) := dk_172 (dk_at dksJ13_bitCount_2 4 rfl rfl)
def dkwJ13_numberOfTrailingZeros_3 : List UInt8 := [5, 124, 59, 27, 26, 4, 124, 96, 172]
abbrev dktJ13_numberOfTrailingZeros_3 : List UInt8 := dkwJ13_numberOfTrailingZeros_3 ++ []
def dkwJ13_numberOfTrailingZeros_2 : List UInt8 := [124, 59, 26, 16, 16, 164, 0, 10, 132, 1, 4, 26, 7, 124, 59, 26, 7, 164, 0, 10, 132, 1, 2, 26]
abbrev dktJ13_numberOfTrailingZeros_2 : List UInt8 := dkwJ13_numberOfTrailingZeros_2 ++ dktJ13_numberOfTrailingZeros_3
def dkwJ13_numberOfTrailingZeros_1 : List UInt8 := [164, 0, 11, 132, 1, 16, 26, 16, 16, 124, 59, 26, 17, 1, 0, 164, 0, 11, 132, 1, 8, 26, 16, 8]
abbrev dktJ13_numberOfTrailingZeros_1 : List UInt8 := dkwJ13_numberOfTrailingZeros_1 ++ dktJ13_numberOfTrailingZeros_2
def dkwJ13_numberOfTrailingZeros_0 : List UInt8 := [26, 2, 130, 26, 4, 100, 126, 59, 26, 157, 0, 8, 26, 16, 32, 126, 172, 4, 60, 26, 19, 1, 8]
abbrev dktJ13_numberOfTrailingZeros_0 : List UInt8 := dkwJ13_numberOfTrailingZeros_0 ++ dktJ13_numberOfTrailingZeros_1
theorem dksJ13_numberOfTrailingZeros_0 : cJ13_numberOfTrailingZeros.data.toList.drop 0 = dktJ13_numberOfTrailingZeros_0 := by decide +kernel
theorem dksJ13_numberOfTrailingZeros_1 : cJ13_numberOfTrailingZeros.data.toList.drop 23 = dktJ13_numberOfTrailingZeros_1 := dk_seg dksJ13_numberOfTrailingZeros_0 23 rfl rfl
theorem dksJ13_numberOfTrailingZeros_2 : cJ13_numberOfTrailingZeros.data.toList.drop 47 = dktJ13_numberOfTrailingZeros_2 := dk_seg dksJ13_numberOfTrailingZeros_1 24 rfl rfl
theorem dksJ13_numberOfTrailingZeros_3 : cJ13_numberOfTrailingZeros.data.toList.drop 71 = dktJ13_numberOfTrailingZeros_3 := dk_seg dksJ13_numberOfTrailingZeros_2 24 rfl rfl
theorem dJ13_numberOfTrailingZeros_0 : decode cJ13_numberOfTrailingZeros 0 = .ok (.iload_n 0, 1) := dk_26 (dk_at dksJ13_numberOfTrailingZeros_0 0 rfl rfl)
theorem dJ13_numberOfTrailingZeros_1 : decode cJ13_numberOfTrailingZeros 1 = .ok (.iconst (-1), 1) := dk_2 (dk_at dksJ13_numberOfTrailingZeros_0 1 rfl rfl)
theorem dJ13_numberOfTrailingZeros_2 : decode cJ13_numberOfTrailingZeros 2 = .ok (.ixor, 1) := dk_130 (dk_at dksJ13_numberOfTrailingZeros_0 2 rfl rfl)
theorem dJ13_numberOfTrailingZeros_3 : decode cJ13_numberOfTrailingZeros 3 = .ok (.iload_n 0, 1) := dk_26 (dk_at dksJ13_numberOfTrailingZeros_0 3 rfl rfl)
theorem dJ13_numberOfTrailingZeros_4 : decode cJ13_numberOfTrailingZeros 4 = .ok (.iconst 1, 1) := dk_4 (dk_at dksJ13_numberOfTrailingZeros_0 4 rfl rfl)
theorem dJ13_numberOfTrailingZeros_5 : decode cJ13_numberOfTrailingZeros 5 = .ok (.isub, 1) := dk_100 (dk_at dksJ13_numberOfTrailingZeros_0 5 rfl rfl)
theorem dJ13_numberOfTrailingZeros_6 : decode cJ13_numberOfTrailingZeros 6 = .ok (.iand, 1) := dk_126 (dk_at dksJ13_numberOfTrailingZeros_0 6 rfl rfl)
theorem dJ13_numberOfTrailingZeros_7 : decode cJ13_numberOfTrailingZeros 7 = .ok (.istore_n 0, 1) := dk_59 (dk_at dksJ13_numberOfTrailingZeros_0 7 rfl rfl)
theorem dJ13_numberOfTrailingZeros_8 : decode cJ13_numberOfTrailingZeros 8 = .ok (.iload_n 0, 1) := dk_26 (dk_at dksJ13_numberOfTrailingZeros_0 8 rfl rfl)
theorem dJ13_numberOfTrailingZeros_9 : decode cJ13_numberOfTrailingZeros 9 = .ok (.ifCond .gt 8, 3) := dk_157 0 8 (dk_at dksJ13_numberOfTrailingZeros_0 9 rfl rfl)
theorem dJ13_numberOfTrailingZeros_12 : decode cJ13_numberOfTrailingZeros 12 = .ok (.iload_n 0, 1) := dk_26 (dk_at dksJ13_numberOfTrailingZeros_0 12 rfl rfl)
theorem dJ13_numberOfTrailingZeros_13 : decode cJ13_numberOfTrailingZeros 13 = .ok (.bipush 32, 2) := dk_16 32 (dk_at dksJ13_numberOfTrailingZeros_0 13 rfl rfl)
theorem dJ13_numberOfTrailingZeros_15 : decode cJ13_numberOfTrailingZeros 15 = .ok (.iand, 1) := dk_126 (dk_at dksJ13_numberOfTrailingZeros_0 15 rfl rfl)
theorem dJ13_numberOfTrailingZeros_16 : decode cJ13_numberOfTrailingZeros 16 = .ok (.ireturn, 1) := dk_172 (dk_at dksJ13_numberOfTrailingZeros_0 16 rfl rfl)
theorem dJ13_numberOfTrailingZeros_17 : decode cJ13_numberOfTrailingZeros 17 = .ok (.iconst 1, 1) := dk_4 (dk_at dksJ13_numberOfTrailingZeros_0 17 rfl rfl)
theorem dJ13_numberOfTrailingZeros_18 : decode cJ13_numberOfTrailingZeros 18 = .ok (.istore_n 1, 1) := dk_60 (dk_at dksJ13_numberOfTrailingZeros_0 18 rfl rfl)
theorem dJ13_numberOfTrailingZeros_19 : decode cJ13_numberOfTrailingZeros 19 = .ok (.iload_n 0, 1) := dk_26 (dk_at dksJ13_numberOfTrailingZeros_0 19 rfl rfl)
theorem dJ13_numberOfTrailingZeros_20 : decode cJ13_numberOfTrailingZeros 20 = .ok (.ldc_w 264, 3) := dk_19 1 8 (dk_at dksJ13_numberOfTrailingZeros_0 20 rfl rfl)
theorem dJ13_numberOfTrailingZeros_23 : decode cJ13_numberOfTrailingZeros 23 = .ok (.if_icmp .le 11, 3) := dk_164 0 11 (dk_at dksJ13_numberOfTrailingZeros_1 0 rfl rfl)
theorem dJ13_numberOfTrailingZeros_26 : decode cJ13_numberOfTrailingZeros 26 = .ok (.iinc 1 16, 3) := dk_132 1 16 (dk_at dksJ13_numberOfTrailingZeros_1 3 rfl rfl)
theorem dJ13_numberOfTrailingZeros_29 : decode cJ13_numberOfTrailingZeros 29 = .ok (.iload_n 0, 1) := dk_26 (dk_at dksJ13_numberOfTrailingZeros_1 6 rfl rfl)
theorem dJ13_numberOfTrailingZeros_30 : decode cJ13_numberOfTrailingZeros 30 = .ok (.bipush 16, 2) := dk_16 16 (dk_at dksJ13_numberOfTrailingZeros_1 7 rfl rfl)
theorem dJ13_numberOfTrailingZeros_32 : decode cJ13_numberOfTrailingZeros 32 = .ok (.iushr, 1) := dk_124 (dk_at dksJ13_numberOfTrailingZeros_1 9 rfl rfl)
theorem dJ13_numberOfTrailingZeros_33 : decode cJ13_numberOfTrailingZeros 33 = .ok (.istore_n 0, 1) := dk_59 (dk_at dksJ13_numberOfTrailingZeros_1 10 rfl rfl)
theorem dJ13_numberOfTrailingZeros_34 : decode cJ13_numberOfTrailingZeros 34 = .ok (.iload_n 0, 1) := dk_26 (dk_at dksJ13_numberOfTrailingZeros_1 11 rfl rfl)
theorem dJ13_numberOfTrailingZeros_35 : decode cJ13_numberOfTrailingZeros 35 = .ok (.sipush 256, 3) := dk_17 1 0 (dk_at dksJ13_numberOfTrailingZeros_1 12 rfl rfl)
theorem dJ13_numberOfTrailingZeros_38 : decode cJ13_numberOfTrailingZeros 38 = .ok (.if_icmp .le 11, 3) := dk_164 0 11 (dk_at dksJ13_numberOfTrailingZeros_1 15 rfl rfl)
theorem dJ13_numberOfTrailingZeros_41 : decode cJ13_numberOfTrailingZeros 41 = .ok (.iinc 1 8, 3) := dk_132 1 8 (dk_at dksJ13_numberOfTrailingZeros_1 18 rfl rfl)
theorem dJ13_numberOfTrailingZeros_44 : decode cJ13_numberOfTrailingZeros 44 = .ok (.iload_n 0, 1) := dk_26 (dk_at dksJ13_numberOfTrailingZeros_1 21 rfl rfl)
theorem dJ13_numberOfTrailingZeros_45 : decode cJ13_numberOfTrailingZeros 45 = .ok (.bipush 8, 2) := dk_16 8 (dk_at dksJ13_numberOfTrailingZeros_1 22 rfl rfl)
theorem dJ13_numberOfTrailingZeros_47 : decode cJ13_numberOfTrailingZeros 47 = .ok (.iushr, 1) := dk_124 (dk_at dksJ13_numberOfTrailingZeros_2 0 rfl rfl)
theorem dJ13_numberOfTrailingZeros_48 : decode cJ13_numberOfTrailingZeros 48 = .ok (.istore_n 0, 1) := dk_59 (dk_at dksJ13_numberOfTrailingZeros_2 1 rfl rfl)
theorem dJ13_numberOfTrailingZeros_49 : decode cJ13_numberOfTrailingZeros 49 = .ok (.iload_n 0, 1) := dk_26 (dk_at dksJ13_numberOfTrailingZeros_2 2 rfl rfl)
theorem dJ13_numberOfTrailingZeros_50 : decode cJ13_numberOfTrailingZeros 50 = .ok (.bipush 16, 2) := dk_16 16 (dk_at dksJ13_numberOfTrailingZeros_2 3 rfl rfl)
theorem dJ13_numberOfTrailingZeros_52 : decode cJ13_numberOfTrailingZeros 52 = .ok (.if_icmp .le 10, 3) := dk_164 0 10 (dk_at dksJ13_numberOfTrailingZeros_2 5 rfl rfl)
theorem dJ13_numberOfTrailingZeros_55 : decode cJ13_numberOfTrailingZeros 55 = .ok (.iinc 1 4, 3) := dk_132 1 4 (dk_at dksJ13_numberOfTrailingZeros_2 8 rfl rfl)
theorem dJ13_numberOfTrailingZeros_58 : decode cJ13_numberOfTrailingZeros 58 = .ok (.iload_n 0, 1) := dk_26 (dk_at dksJ13_numberOfTrailingZeros_2 11 rfl rfl)
theorem dJ13_numberOfTrailingZeros_59 : decode cJ13_numberOfTrailingZeros 59 = .ok (.iconst 4, 1) := dk_7 (dk_at dksJ13_numberOfTrailingZeros_2 12 rfl rfl)
theorem dJ13_numberOfTrailingZeros_60 : decode cJ13_numberOfTrailingZeros 60 = .ok (.iushr, 1) := dk_124 (dk_at dksJ13_numberOfTrailingZeros_2 13 rfl rfl)
theorem dJ13_numberOfTrailingZeros_61 : decode cJ13_numberOfTrailingZeros 61 = .ok (.istore_n 0, 1) := dk_59 (dk_at dksJ13_numberOfTrailingZeros_2 14 rfl rfl)
theorem dJ13_numberOfTrailingZeros_62 : decode cJ13_numberOfTrailingZeros 62 = .ok (.iload_n 0, 1) := dk_26 (dk_at dksJ13_numberOfTrailingZeros_2 15 rfl rfl)
theorem dJ13_numberOfTrailingZeros_63 : decode cJ13_numberOfTrailingZeros 63 = .ok (.iconst 4, 1) := dk_7 (dk_at dksJ13_numberOfTrailingZeros_2 16 rfl rfl)
theorem dJ13_numberOfTrailingZeros_64 : decode cJ13_numberOfTrailingZeros 64 = .ok (.if_icmp .le 10, 3) := dk_164 0 10 (dk_at dksJ13_numberOfTrailingZeros_2 17 rfl rfl)
theorem dJ13_numberOfTrailingZeros_67 : decode cJ13_numberOfTrailingZeros 67 = .ok (.iinc 1 2, 3) := dk_132 1 2 (dk_at dksJ13_numberOfTrailingZeros_2 20 rfl rfl)
theorem dJ13_numberOfTrailingZeros_70 : decode cJ13_numberOfTrailingZeros 70 = .ok (.iload_n 0, 1) := dk_26 (dk_at dksJ13_numberOfTrailingZeros_2 23 rfl rfl)
theorem dJ13_numberOfTrailingZeros_71 : decode cJ13_numberOfTrailingZeros 71 = .ok (.iconst 2, 1) := dk_5 (dk_at dksJ13_numberOfTrailingZeros_3 0 rfl rfl)
theorem dJ13_numberOfTrailingZeros_72 : decode cJ13_numberOfTrailingZeros 72 = .ok (.iushr, 1) := dk_124 (dk_at dksJ13_numberOfTrailingZeros_3 1 rfl rfl)
theorem dJ13_numberOfTrailingZeros_73 : decode cJ13_numberOfTrailingZeros 73 = .ok (.istore_n 0, 1) := dk_59 (dk_at dksJ13_numberOfTrailingZeros_3 2 rfl rfl)
theorem dJ13_numberOfTrailingZeros_74 : decode cJ13_numberOfTrailingZeros 74 = .ok (.iload_n 1, 1) := dk_27 (dk_at dksJ13_numberOfTrailingZeros_3 3 rfl rfl)
theorem dJ13_numberOfTrailingZeros_75 : decode cJ13_numberOfTrailingZeros 75 = .ok (.iload_n 0, 1) := dk_26 (dk_at dksJ13_numberOfTrailingZeros_3 4 rfl rfl)
theorem dJ13_numberOfTrailingZeros_76 : decode cJ13_numberOfTrailingZeros 76 = .ok (.iconst 1, 1) := dk_4 (dk_at dksJ13_numberOfTrailingZeros_3 5 rfl rfl)
theorem dJ13_numberOfTrailingZeros_77 : decode cJ13_numberOfTrailingZeros 77 = .ok (.iushr, 1) := dk_124 (dk_at dksJ13_numberOfTrailingZeros_3 6 rfl rfl)
theorem dJ13_numberOfTrailingZeros_78 : decode cJ13_numberOfTrailingZeros 78 = .ok (.iadd, 1) := dk_96 (dk_at dksJ13_numberOfTrailingZeros_3 7 rfl rfl)
theorem dJ13_numberOfTrailingZeros_79 : decode cJ13_numberOfTrailingZeros 79 = .ok (.ireturn, 1) := dk_172 (dk_at dksJ13_numberOfTrailingZeros_3 8 rfl rfl)
def dkwJ0_init_1 : List UInt8 := [182, 0, 27, 87, 177]
abbrev dktJ0_init_1 : List UInt8 := dkwJ0_init_1 ++ []
def dkwJ0_init_0 : List UInt8 := [42, 183, 0, 1, 42, 42, 181, 0, 7, 42, 178, 0, 13, 181, 0, 17, 42, 178, 0, 20, 181, 0, 24, 42]
abbrev dktJ0_init_0 : List UInt8 := dkwJ0_init_0 ++ dktJ0_init_1
theorem dksJ0_init_0 : cJ0_init.data.toList.drop 0 = dktJ0_init_0 := by decide +kernel
theorem dksJ0_init_1 : cJ0_init.data.toList.drop 24 = dktJ0_init_1 := dk_seg dksJ0_init_0 24 rfl rfl
theorem dJ0_init_0 : decode cJ0_init 0 = .ok (.aload_n 0, 1) := dk_42 (dk_at dksJ0_init_0 0 rfl rfl)
theorem dJ0_init_1 : decode cJ0_init 1 = .ok (.invokespecial 1, 3) := dk_183 0 1 (dk_at dksJ0_init_0 1 rfl rfl)
theorem dJ0_init_4 : decode cJ0_init 4 = .ok (.aload_n 0, 1) := dk_42 (dk_at dksJ0_init_0 4 rfl rfl)
theorem dJ0_init_5 : decode cJ0_init 5 = .ok (.aload_n 0, 1) := dk_42 (dk_at dksJ0_init_0 5 rfl rfl)
theorem dJ0_init_6 : decode cJ0_init 6 = .ok (.putfield 7, 3) := dk_181 0 7 (dk_at dksJ0_init_0 6 rfl rfl)
theorem dJ0_init_9 : decode cJ0_init 9 = .ok (.aload_n 0, 1) := dk_42 (dk_at dksJ0_init_0 9 rfl rfl)
theorem dJ0_init_10 : decode cJ0_init 10 = .ok (.getstatic 13, 3) := dk_178 0 13 (dk_at dksJ0_init_0 10 rfl rfl)
theorem dJ0_init_13 : decode cJ0_init 13 = .ok (.putfield 17, 3) := dk_181 0 17 (dk_at dksJ0_init_0 13 rfl rfl)
theorem dJ0_init_16 : decode cJ0_init 16 = .ok (.aload_n 0, 1) := dk_42 (dk_at dksJ0_init_0 16 rfl rfl)
theorem dJ0_init_17 : decode cJ0_init 17 = .ok (.getstatic 20, 3) := dk_178 0 20 (dk_at dksJ0_init_0 17 rfl rfl)
theorem dJ0_init_20 : decode cJ0_init 20 = .ok (.putfield 24, 3) := dk_181 0 24 (dk_at dksJ0_init_0 20 rfl rfl)
theorem dJ0_init_23 : decode cJ0_init 23 = .ok (.aload_n 0, 1) := dk_42 (dk_at dksJ0_init_0 23 rfl rfl)
theorem dJ0_init_24 : decode cJ0_init 24 = .ok (.invokevirtual 27, 3) := dk_182 0 27 (dk_at dksJ0_init_1 0 rfl rfl)
theorem dJ0_init_27 : decode cJ0_init 27 = .ok (.pop, 1) := dk_87 (dk_at dksJ0_init_1 3 rfl rfl)
theorem dJ0_init_28 : decode cJ0_init 28 = .ok (.return_, 1) := dk_177 (dk_at dksJ0_init_1 4 rfl rfl)
def dkwJ0_init_2_2 : List UInt8 := [44, 181, 0, 7, 29, 154, 0, 8, 42, 1, 181, 0, 24, 177]
abbrev dktJ0_init_2_2 : List UInt8 := dkwJ0_init_2_2 ++ []
def dkwJ0_init_2_1 : List UInt8 := [21, 4, 153, 0, 11, 42, 182, 0, 27, 87, 167, 0, 8, 42, 1, 181, 0, 17, 42, 43, 181, 0, 31, 42]
abbrev dktJ0_init_2_1 : List UInt8 := dkwJ0_init_2_1 ++ dktJ0_init_2_2
def dkwJ0_init_2_0 : List UInt8 := [42, 183, 0, 1, 42, 42, 181, 0, 7, 42, 178, 0, 13, 181, 0, 17, 42, 178, 0, 20, 181, 0, 24]
abbrev dktJ0_init_2_0 : List UInt8 := dkwJ0_init_2_0 ++ dktJ0_init_2_1
theorem dksJ0_init_2_0 : cJ0_init_2.data.toList.drop 0 = dktJ0_init_2_0 := by decide +kernel
theorem dksJ0_init_2_1 : cJ0_init_2.data.toList.drop 23 = dktJ0_init_2_1 := dk_seg dksJ0_init_2_0 23 rfl rfl
theorem dksJ0_init_2_2 : cJ0_init_2.data.toList.drop 47 = dktJ0_init_2_2 := dk_seg dksJ0_init_2_1 24 rfl rfl
theorem dJ0_init_2_0 : decode cJ0_init_2 0 = .ok (.aload_n 0, 1) := dk_42 (dk_at dksJ0_init_2_0 0 rfl rfl)
theorem dJ0_init_2_1 : decode cJ0_init_2 1 = .ok (.invokespecial 1, 3) := dk_183 0 1 (dk_at dksJ0_init_2_0 1 rfl rfl)
theorem dJ0_init_2_4 : decode cJ0_init_2 4 = .ok (.aload_n 0, 1) := dk_42 (dk_at dksJ0_init_2_0 4 rfl rfl)
theorem dJ0_init_2_5 : decode cJ0_init_2 5 = .ok (.aload_n 0, 1) := dk_42 (dk_at dksJ0_init_2_0 5 rfl rfl)
theorem dJ0_init_2_6 : decode cJ0_init_2 6 = .ok (.putfield 7, 3) := dk_181 0 7 (dk_at dksJ0_init_2_0 6 rfl rfl)
theorem dJ0_init_2_9 : decode cJ0_init_2 9 = .ok (.aload_n 0, 1) := dk_42 (dk_at dksJ0_init_2_0 9 rfl rfl)
theorem dJ0_init_2_10 : decode cJ0_init_2 10 = .ok (.getstatic 13, 3) := dk_178 0 13 (dk_at dksJ0_init_2_0 10 rfl rfl)
theorem dJ0_init_2_13 : decode cJ0_init_2 13 = .ok (.putfield 17, 3) := dk_181 0 17 (dk_at dksJ0_init_2_0 13 rfl rfl)
theorem dJ0_init_2_16 : decode cJ0_init_2 16 = .ok (.aload_n 0, 1) := dk_42 (dk_at dksJ0_init_2_0 16 rfl rfl)
theorem dJ0_init_2_17 : decode cJ0_init_2 17 = .ok (.getstatic 20, 3) := dk_178 0 20 (dk_at dksJ0_init_2_0 17 rfl rfl)
theorem dJ0_init_2_20 : decode cJ0_init_2 20 = .ok (.putfield 24, 3) := dk_181 0 24 (dk_at dksJ0_init_2_0 20 rfl rfl)
theorem dJ0_init_2_23 : decode cJ0_init_2 23 = .ok (.iload 4, 2) := dk_21 4 (dk_at dksJ0_init_2_1 0 rfl rfl)
theorem dJ0_init_2_25 : decode cJ0_init_2 25 = .ok (.ifCond .eq 11, 3) := dk_153 0 11 (dk_at dksJ0_init_2_1 2 rfl rfl)
theorem dJ0_init_2_28 : decode cJ0_init_2 28 = .ok (.aload_n 0, 1) := dk_42 (dk_at dksJ0_init_2_1 5 rfl rfl)
theorem dJ0_init_2_29 : decode cJ0_init_2 29 = .ok (.invokevirtual 27, 3) := dk_182 0 27 (dk_at dksJ0_init_2_1 6 rfl rfl)
theorem dJ0_init_2_32 : decode cJ0_init_2 32 = .ok (.pop, 1) := dk_87 (dk_at dksJ0_init_2_1 9 rfl rfl)
theorem dJ0_init_2_33 : decode cJ0_init_2 33 = .ok (.goto 8, 3) := dk_167 0 8 (dk_at dksJ0_init_2_1 10 rfl rfl)
theorem dJ0_init_2_36 : decode cJ0_init_2 36 = .ok (.aload_n 0, 1) := dk_42 (dk_at dksJ0_init_2_1 13 rfl rfl)
theorem dJ0_init_2_37 : decode cJ0_init_2 37 = .ok (.aconst_null, 1) := dk_1 (dk_at dksJ0_init_2_1 14 rfl rfl)
theorem dJ0_init_2_38 : decode cJ0_init_2 38 = .ok (.putfield 17, 3) := dk_181 0 17 (dk_at dksJ0_init_2_1 15 rfl rfl)
theorem dJ0_init_2_41 : decode cJ0_init_2 41 = .ok (.aload_n 0, 1) := dk_42 (dk_at dksJ0_init_2_1 18 rfl rfl)
theorem dJ0_init_2_42 : decode cJ0_init_2 42 = .ok (.aload_n 1, 1) := dk_43 (dk_at dksJ0_init_2_1 19 rfl rfl)
theorem dJ0_init_2_43 : decode cJ0_init_2 43 = .ok (.putfield 31, 3) := dk_181 0 31 (dk_at dksJ0_init_2_1 20 rfl rfl)
theorem dJ0_init_2_46 : decode cJ0_init_2 46 = .ok (.aload_n 0, 1) := dk_42 (dk_at dksJ0_init_2_1 23 rfl rfl)
theorem dJ0_init_2_47 : decode cJ0_init_2 47 = .ok (.aload_n 2, 1) := dk_44 (dk_at dksJ0_init_2_2 0 rfl rfl)
theorem dJ0_init_2_48 : decode cJ0_init_2 48 = .ok (.putfield 7, 3) := dk_181 0 7 (dk_at dksJ0_init_2_2 1 rfl rfl)
theorem dJ0_init_2_51 : decode cJ0_init_2 51 = .ok (.iload_n 3, 1) := dk_29 (dk_at dksJ0_init_2_2 4 rfl rfl)
theorem dJ0_init_2_52 : decode cJ0_init_2 52 = .ok (.ifCond .ne 8, 3) := dk_154 0 8 (dk_at dksJ0_init_2_2 5 rfl rfl)
theorem dJ0_init_2_55 : decode cJ0_init_2 55 = .ok (.aload_n 0, 1) := dk_42 (dk_at dksJ0_init_2_2 8 rfl rfl)
theorem dJ0_init_2_56 : decode cJ0_init_2 56 = .ok (.aconst_null, 1) := dk_1 (dk_at dksJ0_init_2_2 9 rfl rfl)
theorem dJ0_init_2_57 : decode cJ0_init_2 57 = .ok (.putfield 24, 3) := dk_181 0 24 (dk_at dksJ0_init_2_2 10 rfl rfl)
theorem dJ0_init_2_60 : decode cJ0_init_2 60 = .ok (.return_, 1) := dk_177 (dk_at dksJ0_init_2_2 13 rfl rfl)
def dkwJ0_init_3_1 : List UInt8 := [182, 0, 27, 87, 42, 43, 181, 0, 31, 177]
abbrev dktJ0_init_3_1 : List UInt8 := dkwJ0_init_3_1 ++ []
def dkwJ0_init_3_0 : List UInt8 := [42, 183, 0, 1, 42, 42, 181, 0, 7, 42, 178, 0, 13, 181, 0, 17, 42, 178, 0, 20, 181, 0, 24, 42]
abbrev dktJ0_init_3_0 : List UInt8 := dkwJ0_init_3_0 ++ dktJ0_init_3_1
theorem dksJ0_init_3_0 : cJ0_init_3.data.toList.drop 0 = dktJ0_init_3_0 := by decide +kernel
theorem dksJ0_init_3_1 : cJ0_init_3.data.toList.drop 24 = dktJ0_init_3_1 := dk_seg dksJ0_init_3_0 24 rfl rfl
theorem dJ0_init_3_0 : decode cJ0_init_3 0 = .ok (.aload_n 0, 1) := dk_42 (dk_at dksJ0_init_3_0 0 rfl rfl)
theorem dJ0_init_3_1 : decode cJ0_init_3 1 = .ok (.invokespecial 1, 3) := dk_183 0 1 (dk_at dksJ0_init_3_0 1 rfl rfl)
theorem dJ0_init_3_4 : decode cJ0_init_3 4 = .ok (.aload_n 0, 1) := dk_42 (dk_at dksJ0_init_3_0 4 rfl rfl)
theorem dJ0_init_3_5 : decode cJ0_init_3 5 = .ok (.aload_n 0, 1) := dk_42 (dk_at dksJ0_init_3_0 5 rfl rfl)
theorem dJ0_init_3_6 : decode cJ0_init_3 6 = .ok (.putfield 7, 3) := dk_181 0 7 (dk_at dksJ0_init_3_0 6 rfl rfl)
theorem dJ0_init_3_9 : decode cJ0_init_3 9 = .ok (.aload_n 0, 1) := dk_42 (dk_at dksJ0_init_3_0 9 rfl rfl)
theorem dJ0_init_3_10 : decode cJ0_init_3 10 = .ok (.getstatic 13, 3) := dk_178 0 13 (dk_at dksJ0_init_3_0 10 rfl rfl)
theorem dJ0_init_3_13 : decode cJ0_init_3 13 = .ok (.putfield 17, 3) := dk_181 0 17 (dk_at dksJ0_init_3_0 13 rfl rfl)
theorem dJ0_init_3_16 : decode cJ0_init_3 16 = .ok (.aload_n 0, 1) := dk_42 (dk_at dksJ0_init_3_0 16 rfl rfl)
theorem dJ0_init_3_17 : decode cJ0_init_3 17 = .ok (.getstatic 20, 3) := dk_178 0 20 (dk_at dksJ0_init_3_0 17 rfl rfl)
theorem dJ0_init_3_20 : decode cJ0_init_3 20 = .ok (.putfield 24, 3) := dk_181 0 24 (dk_at dksJ0_init_3_0 20 rfl rfl)
theorem dJ0_init_3_23 : decode cJ0_init_3 23 = .ok (.aload_n 0, 1) := dk_42 (dk_at dksJ0_init_3_0 23 rfl rfl)
theorem dJ0_init_3_24 : decode cJ0_init_3 24 = .ok (.invokevirtual 27, 3) := dk_182 0 27 (dk_at dksJ0_init_3_1 0 rfl rfl)
theorem dJ0_init_3_27 : decode cJ0_init_3 27 = .ok (.pop, 1) := dk_87 (dk_at dksJ0_init_3_1 3 rfl rfl)
theorem dJ0_init_3_28 : decode cJ0_init_3 28 = .ok (.aload_n 0, 1) := dk_42 (dk_at dksJ0_init_3_1 4 rfl rfl)
theorem dJ0_init_3_29 : decode cJ0_init_3 29 = .ok (.aload_n 1, 1) := dk_43 (dk_at dksJ0_init_3_1 5 rfl rfl)
theorem dJ0_init_3_30 : decode cJ0_init_3 30 = .ok (.putfield 31, 3) := dk_181 0 31 (dk_at dksJ0_init_3_1 6 rfl rfl)
theorem dJ0_init_3_33 : decode cJ0_init_3 33 = .ok (.return_, 1) := dk_177 (dk_at dksJ0_init_3_1 9 rfl rfl)
def dkwJ1_init_0 : List UInt8 := [42, 43, 44, 29, 21, 4, 183, 0, 16, 177]
abbrev dktJ1_init_0 : List UInt8 := dkwJ1_init_0 ++ []
theorem dksJ1_init_0 : cJ1_init.data.toList.drop 0 = dktJ1_init_0 := by decide +kernel
theorem dJ1_init_0 : decode cJ1_init 0 = .ok (.aload_n 0, 1) := dk_42 (dk_at dksJ1_init_0 0 rfl rfl)
theorem dJ1_init_1 : decode cJ1_init 1 = .ok (.aload_n 1, 1) := dk_43 (dk_at dksJ1_init_0 1 rfl rfl)
theorem dJ1_init_2 : decode cJ1_init 2 = .ok (.aload_n 2, 1) := dk_44 (dk_at dksJ1_init_0 2 rfl rfl)
theorem dJ1_init_3 : decode cJ1_init 3 = .ok (.iload_n 3, 1) := dk_29 (dk_at dksJ1_init_0 3 rfl rfl)
theorem dJ1_init_4 : decode cJ1_init 4 = .ok (.iload 4, 2) := dk_21 4 (dk_at dksJ1_init_0 4 rfl rfl)
theorem dJ1_init_6 : decode cJ1_init 6 = .ok (.invokespecial 16, 3) := dk_183 0 16 (dk_at dksJ1_init_0 6 rfl rfl)
theorem dJ1_init_9 : decode cJ1_init 9 = .ok (.return_, 1) := dk_177 (dk_at dksJ1_init_0 9 rfl rfl)
theorem dJ1_init_2_0 : decode cJ1_init_2 0 = .ok (.aload_n 0, 1) := by decide +kernel
theorem dJ1_init_2_1 : decode cJ1_init_2 1 = .ok (.invokespecial 1, 3) := by decide +kernel
theorem dJ1_init_2_4 : decode cJ1_init_2 4 = .ok (.return_, 1) := by decide +kernel
def dkwJ1_init_3_0 : List UInt8 := [42, 43, 183, 0, 7, 177]
abbrev dktJ1_init_3_0 : List UInt8 := dkwJ1_init_3_0 ++ []
theorem dksJ1_init_3_0 : cJ1_init_3.data.toList.drop 0 = dktJ1_init_3_0 := by decide +kernel
theorem dJ1_init_3_0 : decode cJ1_init_3 0 = .ok (.aload_n 0, 1) := dk_42 (dk_at dksJ1_init_3_0 0 rfl rfl)
theorem dJ1_init_3_1 : decode cJ1_init_3 1 = .ok (.aload_n 1, 1) := dk_43 (dk_at dksJ1_init_3_0 1 rfl rfl)
theorem dJ1_init_3_2 : decode cJ1_init_3 2 = .ok (.invokespecial 7, 3) := dk_183 0 7 (dk_at dksJ1_init_3_0 2 rfl rfl)
theorem dJ1_init_3_5 : decode cJ1_init_3 5 = .ok (.return_, 1) := dk_177 (dk_at dksJ1_init_3_0 5 rfl rfl)
def dkwJ2_init_0 : List UInt8 := [42, 43, 44, 29, 21, 4, 183, 0, 16, 177]
abbrev dktJ2_init_0 : List UInt8 := dkwJ2_init_0 ++ []
theorem dksJ2_init_0 : cJ2_init.data.toList.drop 0 = dktJ2_init_0 := by decide +kernel
theorem dJ2_init_0 : decode cJ2_init 0 = .ok (.aload_n 0, 1) := dk_42 (dk_at dksJ2_init_0 0 rfl rfl)
theorem dJ2_init_1 : decode cJ2_init 1 = .ok (.aload_n 1, 1) := dk_43 (dk_at dksJ2_init_0 1 rfl rfl)
theorem dJ2_init_2 : decode cJ2_init 2 = .ok (.aload_n 2, 1) := dk_44 (dk_at dksJ2_init_0 2 rfl rfl)
theorem dJ2_init_3 : decode cJ2_init 3 = .ok (.iload_n 3, 1) := dk_29 (dk_at dksJ2_init_0 3 rfl rfl)
theorem dJ2_init_4 : decode cJ2_init 4 = .ok (.iload 4, 2) := dk_21 4 (dk_at dksJ2_init_0 4 rfl rfl)
theorem dJ2_init_6 : decode cJ2_init 6 = .ok (.invokespecial 16, 3) := dk_183 0 16 (dk_at dksJ2_init_0 6 rfl rfl)
theorem dJ2_init_9 : decode cJ2_init 9 = .ok (.return_, 1) := dk_177 (dk_at dksJ2_init_0 9 rfl rfl)
theorem dJ2_init_2_0 : decode cJ2_init_2 0 = .ok (.aload_n 0, 1) := by decide +kernel
theorem dJ2_init_2_1 : decode cJ2_init_2 1 = .ok (.invokespecial 1, 3) := by decide +kernel
theorem dJ2_init_2_4 : decode cJ2_init_2 4 = .ok (.return_, 1) := by decide +kernel
def dkwJ2_init_3_0 : List UInt8 := [42, 43, 183, 0, 7, 177]
abbrev dktJ2_init_3_0 : List UInt8 := dkwJ2_init_3_0 ++ []
theorem dksJ2_init_3_0 : cJ2_init_3.data.toList.drop 0 = dktJ2_init_3_0 := by decide +kernel
theorem dJ2_init_3_0 : decode cJ2_init_3 0 = .ok (.aload_n 0, 1) := dk_42 (dk_at dksJ2_init_3_0 0 rfl rfl)
theorem dJ2_init_3_1 : decode cJ2_init_3 1 = .ok (.aload_n 1, 1) := dk_43 (dk_at dksJ2_init_3_0 1 rfl rfl)
theorem dJ2_init_3_2 : decode cJ2_init_3 2 = .ok (.invokespecial 7, 3) := dk_183 0 7 (dk_at dksJ2_init_3_0 2 rfl rfl)
theorem dJ2_init_3_5 : decode cJ2_init_3 5 = .ok (.return_, 1) := dk_177 (dk_at dksJ2_init_3_0 5 rfl rfl)
def dkwJ3_length_0 : List UInt8 := [42, 180, 0, 9, 190, 42, 182, 1, 79, 122, 172]
abbrev dktJ3_length_0 : List UInt8 := dkwJ3_length_0 ++ []
theorem dksJ3_length_0 : cJ3_length.data.toList.drop 0 = dktJ3_length_0 := by decide +kernel
theorem dJ3_length_0 : decode cJ3_length 0 = .ok (.aload_n 0, 1) := dk_42 (dk_at dksJ3_length_0 0 rfl rfl)
theorem dJ3_length_1 : decode cJ3_length 1 = .ok (.getfield 9, 3) := dk_180 0 9 (dk_at dksJ3_length_0 1 rfl rfl)
theorem dJ3_length_4 : decode cJ3_length 4 = .ok (.arraylength, 1) := dk_190 (dk_at dksJ3_length_0 4 rfl rfl)
theorem dJ3_length_5 : decode cJ3_length 5 = .ok (.aload_n 0, 1) := dk_42 (dk_at dksJ3_length_0 5 rfl rfl)
theorem dJ3_length_6 : decode cJ3_length 6 = .ok (.invokevirtual 335, 3) := dk_182 1 79 (dk_at dksJ3_length_0 6 rfl rfl)
theorem dJ3_length_9 : decode cJ3_length 9 = .ok (.ishr, 1) := dk_122 (dk_at dksJ3_length_0 9 rfl rfl)
theorem dJ3_length_10 : decode cJ3_length 10 = .ok (.ireturn, 1) := dk_172 (dk_at dksJ3_length_0 10 rfl rfl)
def dkwJ3_coder_0 : List UInt8 := [178, 0, 38, 153, 0, 10, 42, 180, 0, 15, 167, 0, 4, 4, 172]
abbrev dktJ3_coder_0 : List UInt8 := dkwJ3_coder_0 ++ []
theorem dksJ3_coder_0 : cJ3_coder.data.toList.drop 0 = dktJ3_coder_0 := by decide +kernel
theorem dJ3_coder_0 : decode cJ3_coder 0 = .ok (.getstatic 38, 3) := dk_178 0 38 (dk_at dksJ3_coder_0 0 rfl rfl)
theorem dJ3_coder_3 : decode cJ3_coder 3 = .ok (.ifCond .eq 10, 3) := dk_153 0 10 (dk_at dksJ3_coder_0 3 rfl rfl)
theorem dJ3_coder_6 : decode cJ3_coder 6 = .ok (.aload_n 0, 1) := dk_42 (dk_at dksJ3_coder_0 6 rfl rfl)
theorem dJ3_coder_7 : decode cJ3_coder 7 = .ok (.getfield 15, 3) := dk_180 0 15 (dk_at dksJ3_coder_0 7 rfl rfl)
theorem dJ3_coder_10 : decode cJ3_coder 10 = .ok (.goto 4, 3) := dk_167 0 4 (dk_at dksJ3_coder_0 10 rfl rfl)
theorem dJ3_coder_13 : decode cJ3_coder 13 = .ok (.iconst 1, 1) := dk_4 (dk_at dksJ3_coder_0 13 rfl rfl)
theorem dJ3_coder_14 : decode cJ3_coder 14 = .ok (.ireturn, 1) := dk_172 (dk_at dksJ3_coder_0 14 rfl rfl)
def dkwJ3_charAt_1 : List UInt8 := [172]
abbrev dktJ3_charAt_1 : List UInt8 := dkwJ3_charAt_1 ++ []
def dkwJ3_charAt_0 : List UInt8 := [42, 182, 1, 236, 153, 0, 12, 42, 180, 0, 9, 27, 184, 1, 239, 172, 42, 180, 0, 9, 27, 184, 1, 242]
abbrev dktJ3_charAt_0 : List UInt8 := dkwJ3_charAt_0 ++ dktJ3_charAt_1
theorem dksJ3_charAt_0 : cJ3_charAt.data.toList.drop 0 = dktJ3_charAt_0 := by decide +kernel
theorem dksJ3_charAt_1 : cJ3_charAt.data.toList.drop 24 = dktJ3_charAt_1 := dk_seg dksJ3_charAt_0 24 rfl rfl
theorem dJ3_charAt_0 : decode cJ3_charAt 0 = .ok (.aload_n 0, 1) := dk_42 (dk_at dksJ3_charAt_0 0 rfl rfl)
theorem dJ3_charAt_1 : decode cJ3_charAt 1 = .ok (.invokevirtual 492, 3) := dk_182 1 236 (dk_at dksJ3_charAt_0 1 rfl rfl)
theorem dJ3_charAt_4 : decode cJ3_charAt 4 = .ok (.ifCond .eq 12, 3) := dk_153 0 12 (dk_at dksJ3_charAt_0 4 rfl rfl)
theorem dJ3_charAt_7 : decode cJ3_charAt 7 = .ok (.aload_n 0, 1) := dk_42 (dk_at dksJ3_charAt_0 7 rfl rfl)
theorem dJ3_charAt_8 : decode cJ3_charAt 8 = .ok (.getfield 9, 3) := dk_180 0 9 (dk_at dksJ3_charAt_0 8 rfl rfl)
theorem dJ3_charAt_11 : decode cJ3_charAt 11 = .ok (.iload_n 1, 1) := dk_27 (dk_at dksJ3_charAt_0 11 rfl rfl)
theorem dJ3_charAt_12 : decode cJ3_charAt 12 = .ok (.invokestatic 495, 3) := dk_184 1 239 (dk_at dksJ3_charAt_0 12 rfl rfl)
theorem dJ3_charAt_15 : decode cJ3_charAt 15 = .ok (.ireturn, 1) := dk_172 (dk_at dksJ3_charAt_0 15 rfl rfl)
theorem dJ3_charAt_16 : decode cJ3_charAt 16 = .ok (.aload_n 0, 1) := dk_42 (dk_at dksJ3_charAt_0 16 rfl rfl)
theorem dJ3_charAt_17 : decode cJ3_charAt 17 = .ok (.getfield 9, 3) := dk_180 0 9 (dk_at dksJ3_charAt_0 17 rfl rfl)
theorem dJ3_charAt_20 : decode cJ3_charAt 20 = .ok (.iload_n 1, 1) := dk_27 (dk_at dksJ3_charAt_0 20 rfl rfl)
theorem dJ3_charAt_21 : decode cJ3_charAt 21 = .ok (.invokestatic 498, 3) := dk_184 1 242 (dk_at dksJ3_charAt_0 21 rfl rfl)
theorem dJ3_charAt_24 : decode cJ3_charAt 24 = .ok (.ireturn, 1) := dk_172 (dk_at dksJ3_charAt_1 0 rfl rfl)
def dkwJ3_isLatin1_0 : List UInt8 := [178, 0, 38, 153, 0, 14, 42, 180, 0, 15, 154, 0, 7, 4, 167, 0, 4, 3, 172]
abbrev dktJ3_isLatin1_0 : List UInt8 := dkwJ3_isLatin1_0 ++ []
theorem dksJ3_isLatin1_0 : cJ3_isLatin1.data.toList.drop 0 = dktJ3_isLatin1_0 := by decide +kernel
theorem dJ3_isLatin1_0 : decode cJ3_isLatin1 0 = .ok (.getstatic 38, 3) := dk_178 0 38 (dk_at dksJ3_isLatin1_0 0 rfl rfl)
theorem dJ3_isLatin1_3 : decode cJ3_isLatin1 3 = .ok (.ifCond .eq 14, 3) := dk_153 0 14 (dk_at dksJ3_isLatin1_0 3 rfl rfl)
theorem dJ3_isLatin1_6 : decode cJ3_isLatin1 6 = .ok (.aload_n 0, 1) := dk_42 (dk_at dksJ3_isLatin1_0 6 rfl rfl)
theorem dJ3_isLatin1_7 : decode cJ3_isLatin1 7 = .ok (.getfield 15, 3) := dk_180 0 15 (dk_at dksJ3_isLatin1_0 7 rfl rfl)
theorem dJ3_isLatin1_10 : decode cJ3_isLatin1 10 = .ok (.ifCond .ne 7, 3) := dk_154 0 7 (dk_at dksJ3_isLatin1_0 10 rfl rfl)
theorem dJ3_isLatin1_13 : decode cJ3_isLatin1 13 = .ok (.iconst 1, 1) := dk_4 (dk_at dksJ3_isLatin1_0 13 rfl rfl)
theorem dJ3_isLatin1_14 : decode cJ3_isLatin1 14 = .ok (.goto 4, 3) := dk_167 0 4 (dk_at dksJ3_isLatin1_0 14 rfl rfl)
theorem dJ3_isLatin1_17 : decode cJ3_isLatin1 17 = .ok (.iconst 0, 1) := dk_3 (dk_at dksJ3_isLatin1_0 17 rfl rfl)
theorem dJ3_isLatin1_18 : decode cJ3_isLatin1 18 = .ok (.ireturn, 1) := dk_172 (dk_at dksJ3_isLatin1_0 18 rfl rfl)
def dkwJ3_checkIndex_0 : List UInt8 := [26, 27, 178, 4, 29, 184, 4, 35, 87, 177]
abbrev dktJ3_checkIndex_0 : List UInt8 := dkwJ3_checkIndex_0 ++ []
theorem dksJ3_checkIndex_0 : cJ3_checkIndex.data.toList.drop 0 = dktJ3_checkIndex_0 := by decide +kernel
theorem dJ3_checkIndex_0 : decode cJ3_checkIndex 0 = .ok (.iload_n 0, 1) := dk_26 (dk_at dksJ3_checkIndex_0 0 rfl rfl)
theorem dJ3_checkIndex_1 : decode cJ3_checkIndex 1 = .ok (.iload_n 1, 1) := dk_27 (dk_at dksJ3_checkIndex_0 1 rfl rfl)
theorem dJ3_checkIndex_2 : decode cJ3_checkIndex 2 = .ok (.getstatic 1053, 3) := dk_178 4 29 (dk_at dksJ3_checkIndex_0 2 rfl rfl)
theorem dJ3_checkIndex_5 : decode cJ3_checkIndex 5 = .ok (.invokestatic 1059, 3) := dk_184 4 35 (dk_at dksJ3_checkIndex_0 5 rfl rfl)
theorem dJ3_checkIndex_8 : decode cJ3_checkIndex 8 = .ok (.pop, 1) := dk_87 (dk_at dksJ3_checkIndex_0 8 rfl rfl)
theorem dJ3_checkIndex_9 : decode cJ3_checkIndex 9 = .ok (.return_, 1) := dk_177 (dk_at dksJ3_checkIndex_0 9 rfl rfl)
def dkwJ4_charAt_0 : List UInt8 := [27, 42, 190, 184, 0, 9, 42, 27, 51, 17, 0, 255, 126, 146, 172]
abbrev dktJ4_charAt_0 : List UInt8 := dkwJ4_charAt_0 ++ []
theorem dksJ4_charAt_0 : cJ4_charAt.data.toList.drop 0 = dktJ4_charAt_0 := by decide +kernel
theorem dJ4_charAt_0 : decode cJ4_charAt 0 = .ok (.iload_n 1, 1) := dk_27 (dk_at dksJ4_charAt_0 0 rfl rfl)
theorem dJ4_charAt_1 : decode cJ4_charAt 1 = .ok (.aload_n 0, 1) := dk_42 (dk_at dksJ4_charAt_0 1 rfl rfl)
theorem dJ4_charAt_2 : decode cJ4_charAt 2 = .ok (.arraylength, 1) := dk_190 (dk_at dksJ4_charAt_0 2 rfl rfl)
theorem dJ4_charAt_3 : decode cJ4_charAt 3 = .ok (.invokestatic 9, 3) := dk_184 0 9 (dk_at dksJ4_charAt_0 3 rfl rfl)
theorem dJ4_charAt_6 : decode cJ4_charAt 6 = .ok (.aload_n 0, 1) := dk_42 (dk_at dksJ4_charAt_0 6 rfl rfl)
theorem dJ4_charAt_7 : decode cJ4_charAt 7 = .ok (.iload_n 1, 1) := dk_27 (dk_at dksJ4_charAt_0 7 rfl rfl)
theorem dJ4_charAt_8 : decode cJ4_charAt 8 = .ok (.baload, 1) := dk_51 (dk_at dksJ4_charAt_0 8 rfl rfl)
theorem dJ4_charAt_9 : decode cJ4_charAt 9 = .ok (.sipush 255, 3) := dk_17 0 255 (dk_at dksJ4_charAt_0 9 rfl rfl)
theorem dJ4_charAt_12 : decode cJ4_charAt 12 = .ok (.iand, 1) := dk_126 (dk_at dksJ4_charAt_0 12 rfl rfl)
theorem dJ4_charAt_13 : decode cJ4_charAt 13 = .ok (.i2c, 1) := dk_146 (dk_at dksJ4_charAt_0 13 rfl rfl)
theorem dJ4_charAt_14 : decode cJ4_charAt 14 = .ok (.ireturn, 1) := dk_172 (dk_at dksJ4_charAt_0 14 rfl rfl)
def dkwJ5_checkIndex_0 : List UInt8 := [26, 155, 0, 8, 26, 27, 161, 0, 10, 44, 26, 27, 184, 0, 95, 191, 26, 172]
abbrev dktJ5_checkIndex_0 : List UInt8 := dkwJ5_checkIndex_0 ++ []
theorem dksJ5_checkIndex_0 : cJ5_checkIndex.data.toList.drop 0 = dktJ5_checkIndex_0 := by decide +kernel
theorem dJ5_checkIndex_0 : decode cJ5_checkIndex 0 = .ok (.iload_n 0, 1) := dk_26 (dk_at dksJ5_checkIndex_0 0 rfl rfl)
theorem dJ5_checkIndex_1 : decode cJ5_checkIndex 1 = .ok (.ifCond .lt 8, 3) := dk_155 0 8 (dk_at dksJ5_checkIndex_0 1 rfl rfl)
theorem dJ5_checkIndex_4 : decode cJ5_checkIndex 4 = .ok (.iload_n 0, 1) := dk_26 (dk_at dksJ5_checkIndex_0 4 rfl rfl)
theorem dJ5_checkIndex_5 : decode cJ5_checkIndex 5 = .ok (.iload_n 1, 1) := dk_27 (dk_at dksJ5_checkIndex_0 5 rfl rfl)
theorem dJ5_checkIndex_6 : decode cJ5_checkIndex 6 = .ok (.if_icmp .lt 10, 3) := dk_161 0 10 (dk_at dksJ5_checkIndex_0 6 rfl rfl)
theorem dJ5_checkIndex_9 : decode cJ5_checkIndex 9 = .ok (.aload_n 2, 1) := dk_44 (dk_at dksJ5_checkIndex_0 9 rfl rfl)
theorem dJ5_checkIndex_10 : decode cJ5_checkIndex 10 = .ok (.iload_n 0, 1) := dk_26 (dk_at dksJ5_checkIndex_0 10 rfl rfl)
theorem dJ5_checkIndex_11 : decode cJ5_checkIndex 11 = .ok (.iload_n 1, 1) := dk_27 (dk_at dksJ5_checkIndex_0 11 rfl rfl)
theorem dJ5_checkIndex_12 : decode cJ5_checkIndex 12 = .ok (.invokestatic 95, 3) := dk_184 0 95 (dk_at dksJ5_checkIndex_0 12 rfl rfl)
theorem dJ5_checkIndex_15 : decode cJ5_checkIndex 15 = .ok (.athrow, 1) := dk_191 (dk_at dksJ5_checkIndex_0 15 rfl rfl)
theorem dJ5_checkIndex_16 : decode cJ5_checkIndex 16 = .ok (.iload_n 0, 1) := dk_26 (dk_at dksJ5_checkIndex_0 16 rfl rfl)
theorem dJ5_checkIndex_17 : decode cJ5_checkIndex 17 = .ok (.ireturn, 1) := dk_172 (dk_at dksJ5_checkIndex_0 17 rfl rfl)
def dkwX6_init_0 : List UInt8 := [42, 1, 1, 3, 3, 183, 0, 1, 177]
abbrev dktX6_init_0 : List UInt8 := dkwX6_init_0 ++ []
theorem dksX6_init_0 : cX6_init.data.toList.drop 0 = dktX6_init_0 := by decide +kernel
theorem dX6_init_0 : decode cX6_init 0 = .ok (.aload_n 0, 1) := dk_42 (dk_at dksX6_init_0 0 rfl rfl)
theorem dX6_init_1 : decode cX6_init 1 = .ok (.aconst_null, 1) := dk_1 (dk_at dksX6_init_0 1 rfl rfl)
theorem dX6_init_2 : decode cX6_init 2 = .ok (.aconst_null, 1) := dk_1 (dk_at dksX6_init_0 2 rfl rfl)
theorem dX6_init_3 : decode cX6_init 3 = .ok (.iconst 0, 1) := dk_3 (dk_at dksX6_init_0 3 rfl rfl)
theorem dX6_init_4 : decode cX6_init 4 = .ok (.iconst 0, 1) := dk_3 (dk_at dksX6_init_0 4 rfl rfl)
theorem dX6_init_5 : decode cX6_init 5 = .ok (.invokespecial 1, 3) := dk_183 0 1 (dk_at dksX6_init_0 5 rfl rfl)
theorem dX6_init_8 : decode cX6_init 8 = .ok (.return_, 1) := dk_177 (dk_at dksX6_init_0 8 rfl rfl)
def dkwX8_init_1 : List UInt8 := [16, 36, 162, 0, 16, 42, 180, 0, 9, 27, 2, 79, 132, 1, 1, 167, 255, 240, 177]
abbrev dktX8_init_1 : List UInt8 := dkwX8_init_1 ++ []
def dkwX8_init_0 : List UInt8 := [42, 183, 0, 3, 42, 16, 36, 188, 10, 181, 0, 9, 42, 16, 36, 188, 10, 181, 0, 15, 3, 60, 27]
abbrev dktX8_init_0 : List UInt8 := dkwX8_init_0 ++ dktX8_init_1
theorem dksX8_init_0 : cX8_init.data.toList.drop 0 = dktX8_init_0 := by decide +kernel
theorem dksX8_init_1 : cX8_init.data.toList.drop 23 = dktX8_init_1 := dk_seg dksX8_init_0 23 rfl rfl
theorem dX8_init_0 : decode cX8_init 0 = .ok (.aload_n 0, 1) := dk_42 (dk_at dksX8_init_0 0 rfl rfl)
theorem dX8_init_1 : decode cX8_init 1 = .ok (.invokespecial 3, 3) := dk_183 0 3 (dk_at dksX8_init_0 1 rfl rfl)
theorem dX8_init_4 : decode cX8_init 4 = .ok (.aload_n 0, 1) := dk_42 (dk_at dksX8_init_0 4 rfl rfl)
theorem dX8_init_5 : decode cX8_init 5 = .ok (.bipush 36, 2) := dk_16 36 (dk_at dksX8_init_0 5 rfl rfl)
theorem dX8_init_7 : decode cX8_init 7 = .ok (.newarray .int, 2) := dk_188_10 (dk_at dksX8_init_0 7 rfl rfl)
theorem dX8_init_9 : decode cX8_init 9 = .ok (.putfield 9, 3) := dk_181 0 9 (dk_at dksX8_init_0 9 rfl rfl)
theorem dX8_init_12 : decode cX8_init 12 = .ok (.aload_n 0, 1) := dk_42 (dk_at dksX8_init_0 12 rfl rfl)
theorem dX8_init_13 : decode cX8_init 13 = .ok (.bipush 36, 2) := dk_16 36 (dk_at dksX8_init_0 13 rfl rfl)
theorem dX8_init_15 : decode cX8_init 15 = .ok (.newarray .int, 2) := dk_188_10 (dk_at dksX8_init_0 15 rfl rfl)
theorem dX8_init_17 : decode cX8_init 17 = .ok (.putfield 15, 3) := dk_181 0 15 (dk_at dksX8_init_0 17 rfl rfl)
theorem dX8_init_20 : decode cX8_init 20 = .ok (.iconst 0, 1) := dk_3 (dk_at dksX8_init_0 20 rfl rfl)
theorem dX8_init_21 : decode cX8_init 21 = .ok (.istore_n 1, 1) := dk_60 (dk_at dksX8_init_0 21 rfl rfl)
theorem dX8_init_22 : decode cX8_init 22 = .ok (.iload_n 1, 1) := dk_27 (dk_at dksX8_init_0 22 rfl rfl)
theorem dX8_init_23 : decode cX8_init 23 = .ok (.bipush 36, 2) := dk_16 36 (dk_at dksX8_init_1 0 rfl rfl)
theorem dX8_init_25 : decode cX8_init 25 = .ok (.if_icmp .ge 16, 3) := dk_162 0 16 (dk_at dksX8_init_1 2 rfl rfl)
theorem dX8_init_28 : decode cX8_init 28 = .ok (.aload_n 0, 1) := dk_42 (dk_at dksX8_init_1 5 rfl rfl)
theorem dX8_init_29 : decode cX8_init 29 = .ok (.getfield 9, 3) := dk_180 0 9 (dk_at dksX8_init_1 6 rfl rfl)
theorem dX8_init_32 : decode cX8_init 32 = .ok (.iload_n 1, 1) := dk_27 (dk_at dksX8_init_1 9 rfl rfl)
theorem dX8_init_33 : decode cX8_init 33 = .ok (.iconst (-1), 1) := dk_2 (dk_at dksX8_init_1 10 rfl rfl)
theorem dX8_init_34 : decode cX8_init 34 = .ok (.iastore, 1) := dk_79 (dk_at dksX8_init_1 11 rfl rfl)
theorem dX8_init_35 : decode cX8_init 35 = .ok (.iinc 1 1, 3) := dk_132 1 1 (dk_at dksX8_init_1 12 rfl rfl)
theorem dX8_init_38 : decode cX8_init 38 = .ok (.goto (-16), 3) := dk_167 255 240 (dk_at dksX8_init_1 15 rfl rfl)
theorem dX8_init_41 : decode cX8_init 41 = .ok (.return_, 1) := dk_177 (dk_at dksX8_init_1 18 rfl rfl)
def dkwX8_be_1 : List UInt8 := [3, 16, 36, 184, 0, 18, 177]
abbrev dktX8_be_1 : List UInt8 := dkwX8_be_1 ++ []
def dkwX8_be_0 : List UInt8 := [43, 180, 0, 9, 3, 42, 180, 0, 9, 3, 16, 36, 184, 0, 18, 43, 180, 0, 15, 3, 42, 180, 0, 15]
abbrev dktX8_be_0 : List UInt8 := dkwX8_be_0 ++ dktX8_be_1
theorem dksX8_be_0 : cX8_be.data.toList.drop 0 = dktX8_be_0 := by decide +kernel
theorem dksX8_be_1 : cX8_be.data.toList.drop 24 = dktX8_be_1 := dk_seg dksX8_be_0 24 rfl rfl
theorem dX8_be_0 : decode cX8_be 0 = .ok (.aload_n 1, 1) := dk_43 (dk_at dksX8_be_0 0 rfl rfl)
theorem dX8_be_1 : decode cX8_be 1 = .ok (.getfield 9, 3) := dk_180 0 9 (dk_at dksX8_be_0 1 rfl rfl)
theorem dX8_be_4 : decode cX8_be 4 = .ok (.iconst 0, 1) := dk_3 (dk_at dksX8_be_0 4 rfl rfl)
theorem dX8_be_5 : decode cX8_be 5 = .ok (.aload_n 0, 1) := dk_42 (dk_at dksX8_be_0 5 rfl rfl)
theorem dX8_be_6 : decode cX8_be 6 = .ok (.getfield 9, 3) := dk_180 0 9 (dk_at dksX8_be_0 6 rfl rfl)
theorem dX8_be_9 : decode cX8_be 9 = .ok (.iconst 0, 1) := dk_3 (dk_at dksX8_be_0 9 rfl rfl)
theorem dX8_be_10 : decode cX8_be 10 = .ok (.bipush 36, 2) := dk_16 36 (dk_at dksX8_be_0 10 rfl rfl)
theorem dX8_be_12 : decode cX8_be 12 = .ok (.invokestatic 18, 3) := dk_184 0 18 (dk_at dksX8_be_0 12 rfl rfl)
theorem dX8_be_15 : decode cX8_be 15 = .ok (.aload_n 1, 1) := dk_43 (dk_at dksX8_be_0 15 rfl rfl)
theorem dX8_be_16 : decode cX8_be 16 = .ok (.getfield 15, 3) := dk_180 0 15 (dk_at dksX8_be_0 16 rfl rfl)
theorem dX8_be_19 : decode cX8_be 19 = .ok (.iconst 0, 1) := dk_3 (dk_at dksX8_be_0 19 rfl rfl)
theorem dX8_be_20 : decode cX8_be 20 = .ok (.aload_n 0, 1) := dk_42 (dk_at dksX8_be_0 20 rfl rfl)
theorem dX8_be_21 : decode cX8_be 21 = .ok (.getfield 15, 3) := dk_180 0 15 (dk_at dksX8_be_0 21 rfl rfl)
theorem dX8_be_24 : decode cX8_be 24 = .ok (.iconst 0, 1) := dk_3 (dk_at dksX8_be_1 0 rfl rfl)
theorem dX8_be_25 : decode cX8_be 25 = .ok (.bipush 36, 2) := dk_16 36 (dk_at dksX8_be_1 1 rfl rfl)
theorem dX8_be_27 : decode cX8_be 27 = .ok (.invokestatic 18, 3) := dk_184 0 18 (dk_at dksX8_be_1 3 rfl rfl)
theorem dX8_be_30 : decode cX8_be 30 = .ok (.return_, 1) := dk_177 (dk_at dksX8_be_1 6 rfl rfl)
def dkwX8_goes_2 : List UInt8 := [79, 21, 4, 172]
abbrev dktX8_goes_2 : List UInt8 := dkwX8_goes_2 ++ []
def dkwX8_goes_1 : List UInt8 := [180, 0, 9, 28, 46, 79, 42, 180, 0, 15, 29, 42, 180, 0, 15, 28, 46, 79, 42, 180, 0, 9, 28, 2]
abbrev dktX8_goes_1 : List UInt8 := dkwX8_goes_1 ++ dktX8_goes_2
def dkwX8_goes_0 : List UInt8 := [27, 16, 36, 108, 61, 27, 16, 36, 112, 62, 42, 180, 0, 9, 29, 46, 54, 4, 42, 180, 0, 9, 29, 42]
abbrev dktX8_goes_0 : List UInt8 := dkwX8_goes_0 ++ dktX8_goes_1
theorem dksX8_goes_0 : cX8_goes.data.toList.drop 0 = dktX8_goes_0 := by decide +kernel
theorem dksX8_goes_1 : cX8_goes.data.toList.drop 24 = dktX8_goes_1 := dk_seg dksX8_goes_0 24 rfl rfl
theorem dksX8_goes_2 : cX8_goes.data.toList.drop 48 = dktX8_goes_2 := dk_seg dksX8_goes_1 24 rfl rfl
theorem dX8_goes_0 : decode cX8_goes 0 = .ok (.iload_n 1, 1) := dk_27 (dk_at dksX8_goes_0 0 rfl rfl)
theorem dX8_goes_1 : decode cX8_goes 1 = .ok (.bipush 36, 2) := dk_16 36 (dk_at dksX8_goes_0 1 rfl rfl)
theorem dX8_goes_3 : decode cX8_goes 3 = .ok (.idiv, 1) := dk_108 (dk_at dksX8_goes_0 3 rfl rfl)
theorem dX8_goes_4 : decode cX8_goes 4 = .ok (.istore_n 2, 1) := dk_61 (dk_at dksX8_goes_0 4 rfl rfl)
theorem dX8_goes_5 : decode cX8_goes 5 = .ok (.iload_n 1, 1) := dk_27 (dk_at dksX8_goes_0 5 rfl rfl)
theorem dX8_goes_6 : decode cX8_goes 6 = .ok (.bipush 36, 2) := dk_16 36 (dk_at dksX8_goes_0 6 rfl rfl)
theorem dX8_goes_8 : decode cX8_goes 8 = .ok (.irem, 1) := dk_112 (dk_at dksX8_goes_0 8 rfl rfl)
theorem dX8_goes_9 : decode cX8_goes 9 = .ok (.istore_n 3, 1) := dk_62 (dk_at dksX8_goes_0 9 rfl rfl)
theorem dX8_goes_10 : decode cX8_goes 10 = .ok (.aload_n 0, 1) := dk_42 (dk_at dksX8_goes_0 10 rfl rfl)
theorem dX8_goes_11 : decode cX8_goes 11 = .ok (.getfield 9, 3) := dk_180 0 9 (dk_at dksX8_goes_0 11 rfl rfl)
theorem dX8_goes_14 : decode cX8_goes 14 = .ok (.iload_n 3, 1) := dk_29 (dk_at dksX8_goes_0 14 rfl rfl)
theorem dX8_goes_15 : decode cX8_goes 15 = .ok (.iaload, 1) := dk_46 (dk_at dksX8_goes_0 15 rfl rfl)
theorem dX8_goes_16 : decode cX8_goes 16 = .ok (.istore 4, 2) := dk_54 4 (dk_at dksX8_goes_0 16 rfl rfl)
theorem dX8_goes_18 : decode cX8_goes 18 = .ok (.aload_n 0, 1) := dk_42 (dk_at dksX8_goes_0 18 rfl rfl)
theorem dX8_goes_19 : decode cX8_goes 19 = .ok (.getfield 9, 3) := dk_180 0 9 (dk_at dksX8_goes_0 19 rfl rfl)
theorem dX8_goes_22 : decode cX8_goes 22 = .ok (.iload_n 3, 1) := dk_29 (dk_at dksX8_goes_0 22 rfl rfl)
theorem dX8_goes_23 : decode cX8_goes 23 = .ok (.aload_n 0, 1) := dk_42 (dk_at dksX8_goes_0 23 rfl rfl)
theorem dX8_goes_24 : decode cX8_goes 24 = .ok (.getfield 9, 3) := dk_180 0 9 (dk_at dksX8_goes_1 0 rfl rfl)
theorem dX8_goes_27 : decode cX8_goes 27 = .ok (.iload_n 2, 1) := dk_28 (dk_at dksX8_goes_1 3 rfl rfl)
theorem dX8_goes_28 : decode cX8_goes 28 = .ok (.iaload, 1) := dk_46 (dk_at dksX8_goes_1 4 rfl rfl)
theorem dX8_goes_29 : decode cX8_goes 29 = .ok (.iastore, 1) := dk_79 (dk_at dksX8_goes_1 5 rfl rfl)
theorem dX8_goes_30 : decode cX8_goes 30 = .ok (.aload_n 0, 1) := dk_42 (dk_at dksX8_goes_1 6 rfl rfl)
theorem dX8_goes_31 : decode cX8_goes 31 = .ok (.getfield 15, 3) := dk_180 0 15 (dk_at dksX8_goes_1 7 rfl rfl)
theorem dX8_goes_34 : decode cX8_goes 34 = .ok (.iload_n 3, 1) := dk_29 (dk_at dksX8_goes_1 10 rfl rfl)
theorem dX8_goes_35 : decode cX8_goes 35 = .ok (.aload_n 0, 1) := dk_42 (dk_at dksX8_goes_1 11 rfl rfl)
theorem dX8_goes_36 : decode cX8_goes 36 = .ok (.getfield 15, 3) := dk_180 0 15 (dk_at dksX8_goes_1 12 rfl rfl)
theorem dX8_goes_39 : decode cX8_goes 39 = .ok (.iload_n 2, 1) := dk_28 (dk_at dksX8_goes_1 15 rfl rfl)
theorem dX8_goes_40 : decode cX8_goes 40 = .ok (.iaload, 1) := dk_46 (dk_at dksX8_goes_1 16 rfl rfl)
theorem dX8_goes_41 : decode cX8_goes 41 = .ok (.iastore, 1) := dk_79 (dk_at dksX8_goes_1 17 rfl rfl)
theorem dX8_goes_42 : decode cX8_goes 42 = .ok (.aload_n 0, 1) := dk_42 (dk_at dksX8_goes_1 18 rfl rfl)
theorem dX8_goes_43 : decode cX8_goes 43 = .ok (.getfield 9, 3) := dk_180 0 9 (dk_at dksX8_goes_1 19 rfl rfl)
theorem dX8_goes_46 : decode cX8_goes 46 = .ok (.iload_n 2, 1) := dk_28 (dk_at dksX8_goes_1 22 rfl rfl)
theorem dX8_goes_47 : decode cX8_goes 47 = .ok (.iconst (-1), 1) := dk_2 (dk_at dksX8_goes_1 23 rfl rfl)
theorem dX8_goes_48 : decode cX8_goes 48 = .ok (.iastore, 1) := dk_79 (dk_at dksX8_goes_2 0 rfl rfl)
theorem dX8_goes_49 : decode cX8_goes 49 = .ok (.iload 4, 2) := dk_21 4 (dk_at dksX8_goes_2 1 rfl rfl)
theorem dX8_goes_51 : decode cX8_goes 51 = .ok (.ireturn, 1) := dk_172 (dk_at dksX8_goes_2 3 rfl rfl)
def dkwX8_men_1 : List UInt8 := [180, 0, 15, 29, 46, 27, 160, 0, 7, 4, 167, 0, 4, 3, 96, 61, 132, 3, 1, 167, 255, 219, 28, 172]
abbrev dktX8_men_1 : List UInt8 := dkwX8_men_1 ++ []
def dkwX8_men_0 : List UInt8 := [3, 61, 3, 62, 29, 16, 36, 162, 0, 37, 28, 42, 180, 0, 9, 29, 46, 2, 159, 0, 17, 42]
abbrev dktX8_men_0 : List UInt8 := dkwX8_men_0 ++ dktX8_men_1
theorem dksX8_men_0 : cX8_men.data.toList.drop 0 = dktX8_men_0 := by decide +kernel
theorem dksX8_men_1 : cX8_men.data.toList.drop 22 = dktX8_men_1 := dk_seg dksX8_men_0 22 rfl rfl
theorem dX8_men_0 : decode cX8_men 0 = .ok (.iconst 0, 1) := dk_3 (dk_at dksX8_men_0 0 rfl rfl)
theorem dX8_men_1 : decode cX8_men 1 = .ok (.istore_n 2, 1) := dk_61 (dk_at dksX8_men_0 1 rfl rfl)
theorem dX8_men_2 : decode cX8_men 2 = .ok (.iconst 0, 1) := dk_3 (dk_at dksX8_men_0 2 rfl rfl)
theorem dX8_men_3 : decode cX8_men 3 = .ok (.istore_n 3, 1) := dk_62 (dk_at dksX8_men_0 3 rfl rfl)
theorem dX8_men_4 : decode cX8_men 4 = .ok (.iload_n 3, 1) := dk_29 (dk_at dksX8_men_0 4 rfl rfl)
theorem dX8_men_5 : decode cX8_men 5 = .ok (.bipush 36, 2) := dk_16 36 (dk_at dksX8_men_0 5 rfl rfl)
theorem dX8_men_7 : decode cX8_men 7 = .ok (.if_icmp .ge 37, 3) := dk_162 0 37 (dk_at dksX8_men_0 7 rfl rfl)
theorem dX8_men_10 : decode cX8_men 10 = .ok (.iload_n 2, 1) := dk_28 (dk_at dksX8_men_0 10 rfl rfl)
theorem dX8_men_11 : decode cX8_men 11 = .ok (.aload_n 0, 1) := dk_42 (dk_at dksX8_men_0 11 rfl rfl)
theorem dX8_men_12 : decode cX8_men 12 = .ok (.getfield 9, 3) := dk_180 0 9 (dk_at dksX8_men_0 12 rfl rfl)
theorem dX8_men_15 : decode cX8_men 15 = .ok (.iload_n 3, 1) := dk_29 (dk_at dksX8_men_0 15 rfl rfl)
theorem dX8_men_16 : decode cX8_men 16 = .ok (.iaload, 1) := dk_46 (dk_at dksX8_men_0 16 rfl rfl)
theorem dX8_men_17 : decode cX8_men 17 = .ok (.iconst (-1), 1) := dk_2 (dk_at dksX8_men_0 17 rfl rfl)
theorem dX8_men_18 : decode cX8_men 18 = .ok (.if_icmp .eq 17, 3) := dk_159 0 17 (dk_at dksX8_men_0 18 rfl rfl)
theorem dX8_men_21 : decode cX8_men 21 = .ok (.aload_n 0, 1) := dk_42 (dk_at dksX8_men_0 21 rfl rfl)
theorem dX8_men_22 : decode cX8_men 22 = .ok (.getfield 15, 3) := dk_180 0 15 (dk_at dksX8_men_1 0 rfl rfl)
theorem dX8_men_25 : decode cX8_men 25 = .ok (.iload_n 3, 1) := dk_29 (dk_at dksX8_men_1 3 rfl rfl)
theorem dX8_men_26 : decode cX8_men 26 = .ok (.iaload, 1) := dk_46 (dk_at dksX8_men_1 4 rfl rfl)
theorem dX8_men_27 : decode cX8_men 27 = .ok (.iload_n 1, 1) := dk_27 (dk_at dksX8_men_1 5 rfl rfl)
theorem dX8_men_28 : decode cX8_men 28 = .ok (.if_icmp .ne 7, 3) := dk_160 0 7 (dk_at dksX8_men_1 6 rfl rfl)
theorem dX8_men_31 : decode cX8_men 31 = .ok (.iconst 1, 1) := dk_4 (dk_at dksX8_men_1 9 rfl rfl)
theorem dX8_men_32 : decode cX8_men 32 = .ok (.goto 4, 3) := dk_167 0 4 (dk_at dksX8_men_1 10 rfl rfl)
theorem dX8_men_35 : decode cX8_men 35 = .ok (.iconst 0, 1) := dk_3 (dk_at dksX8_men_1 13 rfl rfl)
theorem dX8_men_36 : decode cX8_men 36 = .ok (.iadd, 1) := dk_96 (dk_at dksX8_men_1 14 rfl rfl)
theorem dX8_men_37 : decode cX8_men 37 = .ok (.istore_n 2, 1) := dk_61 (dk_at dksX8_men_1 15 rfl rfl)
theorem dX8_men_38 : decode cX8_men 38 = .ok (.iinc 3 1, 3) := dk_132 3 1 (dk_at dksX8_men_1 16 rfl rfl)
theorem dX8_men_41 : decode cX8_men 41 = .ok (.goto (-37), 3) := dk_167 255 219 (dk_at dksX8_men_1 19 rfl rfl)
theorem dX8_men_44 : decode cX8_men 44 = .ok (.iload_n 2, 1) := dk_28 (dk_at dksX8_men_1 22 rfl rfl)
theorem dX8_men_45 : decode cX8_men 45 = .ok (.ireturn, 1) := dk_172 (dk_at dksX8_men_1 23 rfl rfl)
def dkwX8_comes_2 : List UInt8 := [180, 0, 15, 21, 4, 4, 42, 180, 0, 15, 29, 46, 100, 79, 177]
abbrev dktX8_comes_2 : List UInt8 := dkwX8_comes_2 ++ []
def dkwX8_comes_1 : List UInt8 := [42, 180, 0, 15, 29, 42, 180, 0, 15, 21, 4, 46, 79, 42, 180, 0, 9, 21, 4, 28, 79, 42]
abbrev dktX8_comes_1 : List UInt8 := dkwX8_comes_1 ++ dktX8_comes_2
def dkwX8_comes_0 : List UInt8 := [27, 16, 36, 108, 62, 27, 16, 36, 112, 54, 4, 42, 180, 0, 9, 29, 42, 180, 0, 9, 21, 4, 46, 79]
abbrev dktX8_comes_0 : List UInt8 := dkwX8_comes_0 ++ dktX8_comes_1
theorem dksX8_comes_0 : cX8_comes.data.toList.drop 0 = dktX8_comes_0 := by decide +kernel
theorem dksX8_comes_1 : cX8_comes.data.toList.drop 24 = dktX8_comes_1 := dk_seg dksX8_comes_0 24 rfl rfl
theorem dksX8_comes_2 : cX8_comes.data.toList.drop 46 = dktX8_comes_2 := dk_seg dksX8_comes_1 22 rfl rfl
theorem dX8_comes_0 : decode cX8_comes 0 = .ok (.iload_n 1, 1) := dk_27 (dk_at dksX8_comes_0 0 rfl rfl)
theorem dX8_comes_1 : decode cX8_comes 1 = .ok (.bipush 36, 2) := dk_16 36 (dk_at dksX8_comes_0 1 rfl rfl)
theorem dX8_comes_3 : decode cX8_comes 3 = .ok (.idiv, 1) := dk_108 (dk_at dksX8_comes_0 3 rfl rfl)
theorem dX8_comes_4 : decode cX8_comes 4 = .ok (.istore_n 3, 1) := dk_62 (dk_at dksX8_comes_0 4 rfl rfl)
theorem dX8_comes_5 : decode cX8_comes 5 = .ok (.iload_n 1, 1) := dk_27 (dk_at dksX8_comes_0 5 rfl rfl)
theorem dX8_comes_6 : decode cX8_comes 6 = .ok (.bipush 36, 2) := dk_16 36 (dk_at dksX8_comes_0 6 rfl rfl)
theorem dX8_comes_8 : decode cX8_comes 8 = .ok (.irem, 1) := dk_112 (dk_at dksX8_comes_0 8 rfl rfl)
theorem dX8_comes_9 : decode cX8_comes 9 = .ok (.istore 4, 2) := dk_54 4 (dk_at dksX8_comes_0 9 rfl rfl)
theorem dX8_comes_11 : decode cX8_comes 11 = .ok (.aload_n 0, 1) := dk_42 (dk_at dksX8_comes_0 11 rfl rfl)
theorem dX8_comes_12 : decode cX8_comes 12 = .ok (.getfield 9, 3) := dk_180 0 9 (dk_at dksX8_comes_0 12 rfl rfl)
theorem dX8_comes_15 : decode cX8_comes 15 = .ok (.iload_n 3, 1) := dk_29 (dk_at dksX8_comes_0 15 rfl rfl)
theorem dX8_comes_16 : decode cX8_comes 16 = .ok (.aload_n 0, 1) := dk_42 (dk_at dksX8_comes_0 16 rfl rfl)
theorem dX8_comes_17 : decode cX8_comes 17 = .ok (.getfield 9, 3) := dk_180 0 9 (dk_at dksX8_comes_0 17 rfl rfl)
theorem dX8_comes_20 : decode cX8_comes 20 = .ok (.iload 4, 2) := dk_21 4 (dk_at dksX8_comes_0 20 rfl rfl)
theorem dX8_comes_22 : decode cX8_comes 22 = .ok (.iaload, 1) := dk_46 (dk_at dksX8_comes_0 22 rfl rfl)
theorem dX8_comes_23 : decode cX8_comes 23 = .ok (.iastore, 1) := dk_79 (dk_at dksX8_comes_0 23 rfl rfl)
theorem dX8_comes_24 : decode cX8_comes 24 = .ok (.aload_n 0, 1) := dk_42 (dk_at dksX8_comes_1 0 rfl rfl)
theorem dX8_comes_25 : decode cX8_comes 25 = .ok (.getfield 15, 3) := dk_180 0 15 (dk_at dksX8_comes_1 1 rfl rfl)
theorem dX8_comes_28 : decode cX8_comes 28 = .ok (.iload_n 3, 1) := dk_29 (dk_at dksX8_comes_1 4 rfl rfl)
theorem dX8_comes_29 : decode cX8_comes 29 = .ok (.aload_n 0, 1) := dk_42 (dk_at dksX8_comes_1 5 rfl rfl)
theorem dX8_comes_30 : decode cX8_comes 30 = .ok (.getfield 15, 3) := dk_180 0 15 (dk_at dksX8_comes_1 6 rfl rfl)
theorem dX8_comes_33 : decode cX8_comes 33 = .ok (.iload 4, 2) := dk_21 4 (dk_at dksX8_comes_1 9 rfl rfl)
theorem dX8_comes_35 : decode cX8_comes 35 = .ok (.iaload, 1) := dk_46 (dk_at dksX8_comes_1 11 rfl rfl)
theorem dX8_comes_36 : decode cX8_comes 36 = .ok (.iastore, 1) := dk_79 (dk_at dksX8_comes_1 12 rfl rfl)
theorem dX8_comes_37 : decode cX8_comes 37 = .ok (.aload_n 0, 1) := dk_42 (dk_at dksX8_comes_1 13 rfl rfl)
theorem dX8_comes_38 : decode cX8_comes 38 = .ok (.getfield 9, 3) := dk_180 0 9 (dk_at dksX8_comes_1 14 rfl rfl)
theorem dX8_comes_41 : decode cX8_comes 41 = .ok (.iload 4, 2) := dk_21 4 (dk_at dksX8_comes_1 17 rfl rfl)
theorem dX8_comes_43 : decode cX8_comes 43 = .ok (.iload_n 2, 1) := dk_28 (dk_at dksX8_comes_1 19 rfl rfl)
theorem dX8_comes_44 : decode cX8_comes 44 = .ok (.iastore, 1) := dk_79 (dk_at dksX8_comes_1 20 rfl rfl)
theorem dX8_comes_45 : decode cX8_comes 45 = .ok (.aload_n 0, 1) := dk_42 (dk_at dksX8_comes_1 21 rfl rfl)
theorem dX8_comes_46 : decode cX8_comes 46 = .ok (.getfield 15, 3) := dk_180 0 15 (dk_at dksX8_comes_2 0 rfl rfl)
theorem dX8_comes_49 : decode cX8_comes 49 = .ok (.iload 4, 2) := dk_21 4 (dk_at dksX8_comes_2 3 rfl rfl)
theorem dX8_comes_51 : decode cX8_comes 51 = .ok (.iconst 1, 1) := dk_4 (dk_at dksX8_comes_2 5 rfl rfl)
theorem dX8_comes_52 : decode cX8_comes 52 = .ok (.aload_n 0, 1) := dk_42 (dk_at dksX8_comes_2 6 rfl rfl)
theorem dX8_comes_53 : decode cX8_comes 53 = .ok (.getfield 15, 3) := dk_180 0 15 (dk_at dksX8_comes_2 7 rfl rfl)
theorem dX8_comes_56 : decode cX8_comes 56 = .ok (.iload_n 3, 1) := dk_29 (dk_at dksX8_comes_2 10 rfl rfl)
theorem dX8_comes_57 : decode cX8_comes 57 = .ok (.iaload, 1) := dk_46 (dk_at dksX8_comes_2 11 rfl rfl)
theorem dX8_comes_58 : decode cX8_comes 58 = .ok (.isub, 1) := dk_100 (dk_at dksX8_comes_2 12 rfl rfl)
theorem dX8_comes_59 : decode cX8_comes 59 = .ok (.iastore, 1) := dk_79 (dk_at dksX8_comes_2 13 rfl rfl)
theorem dX8_comes_60 : decode cX8_comes 60 = .ok (.return_, 1) := dk_177 (dk_at dksX8_comes_2 14 rfl rfl)
def dkwX9_init_0 : List UInt8 := [42, 183, 0, 3, 42, 16, 24, 189, 0, 9, 181, 0, 11, 177]
abbrev dktX9_init_0 : List UInt8 := dkwX9_init_0 ++ []
theorem dksX9_init_0 : cX9_init.data.toList.drop 0 = dktX9_init_0 := by decide +kernel
theorem dX9_init_0 : decode cX9_init 0 = .ok (.aload_n 0, 1) := dk_42 (dk_at dksX9_init_0 0 rfl rfl)
theorem dX9_init_1 : decode cX9_init 1 = .ok (.invokespecial 3, 3) := dk_183 0 3 (dk_at dksX9_init_0 1 rfl rfl)
theorem dX9_init_4 : decode cX9_init 4 = .ok (.aload_n 0, 1) := dk_42 (dk_at dksX9_init_0 4 rfl rfl)
theorem dX9_init_5 : decode cX9_init 5 = .ok (.bipush 24, 2) := dk_16 24 (dk_at dksX9_init_0 5 rfl rfl)
theorem dX9_init_7 : decode cX9_init 7 = .ok (.anewarray 9, 3) := dk_189 0 9 (dk_at dksX9_init_0 7 rfl rfl)
theorem dX9_init_10 : decode cX9_init 10 = .ok (.putfield 11, 3) := dk_181 0 11 (dk_at dksX9_init_0 10 rfl rfl)
theorem dX9_init_13 : decode cX9_init 13 = .ok (.return_, 1) := dk_177 (dk_at dksX9_init_0 13 rfl rfl)
def dkwX9_isTwice_1 : List UInt8 := [4, 167, 0, 4, 3, 172]
abbrev dktX9_isTwice_1 : List UInt8 := dkwX9_isTwice_1 ++ []
def dkwX9_isTwice_0 : List UInt8 := [27, 158, 0, 27, 42, 180, 0, 11, 27, 50, 42, 180, 0, 11, 27, 4, 100, 50, 182, 0, 30, 153, 0, 7]
abbrev dktX9_isTwice_0 : List UInt8 := dkwX9_isTwice_0 ++ dktX9_isTwice_1
theorem dksX9_isTwice_0 : cX9_isTwice.data.toList.drop 0 = dktX9_isTwice_0 := by decide +kernel
theorem dksX9_isTwice_1 : cX9_isTwice.data.toList.drop 24 = dktX9_isTwice_1 := dk_seg dksX9_isTwice_0 24 rfl rfl
theorem dX9_isTwice_0 : decode cX9_isTwice 0 = .ok (.iload_n 1, 1) := dk_27 (dk_at dksX9_isTwice_0 0 rfl rfl)
theorem dX9_isTwice_1 : decode cX9_isTwice 1 = .ok (.ifCond .le 27, 3) := dk_158 0 27 (dk_at dksX9_isTwice_0 1 rfl rfl)
theorem dX9_isTwice_4 : decode cX9_isTwice 4 = .ok (.aload_n 0, 1) := dk_42 (dk_at dksX9_isTwice_0 4 rfl rfl)
theorem dX9_isTwice_5 : decode cX9_isTwice 5 = .ok (.getfield 11, 3) := dk_180 0 11 (dk_at dksX9_isTwice_0 5 rfl rfl)
theorem dX9_isTwice_8 : decode cX9_isTwice 8 = .ok (.iload_n 1, 1) := dk_27 (dk_at dksX9_isTwice_0 8 rfl rfl)
theorem dX9_isTwice_9 : decode cX9_isTwice 9 = .ok (.aaload, 1) := dk_50 (dk_at dksX9_isTwice_0 9 rfl rfl)
theorem dX9_isTwice_10 : decode cX9_isTwice 10 = .ok (.aload_n 0, 1) := dk_42 (dk_at dksX9_isTwice_0 10 rfl rfl)
theorem dX9_isTwice_11 : decode cX9_isTwice 11 = .ok (.getfield 11, 3) := dk_180 0 11 (dk_at dksX9_isTwice_0 11 rfl rfl)
theorem dX9_isTwice_14 : decode cX9_isTwice 14 = .ok (.iload_n 1, 1) := dk_27 (dk_at dksX9_isTwice_0 14 rfl rfl)
theorem dX9_isTwice_15 : decode cX9_isTwice 15 = .ok (.iconst 1, 1) := dk_4 (dk_at dksX9_isTwice_0 15 rfl rfl)
theorem dX9_isTwice_16 : decode cX9_isTwice 16 = .ok (.isub, 1) := dk_100 (dk_at dksX9_isTwice_0 16 rfl rfl)
theorem dX9_isTwice_17 : decode cX9_isTwice 17 = .ok (.aaload, 1) := dk_50 (dk_at dksX9_isTwice_0 17 rfl rfl)
theorem dX9_isTwice_18 : decode cX9_isTwice 18 = .ok (.invokevirtual 30, 3) := dk_182 0 30 (dk_at dksX9_isTwice_0 18 rfl rfl)
theorem dX9_isTwice_21 : decode cX9_isTwice 21 = .ok (.ifCond .eq 7, 3) := dk_153 0 7 (dk_at dksX9_isTwice_0 21 rfl rfl)
theorem dX9_isTwice_24 : decode cX9_isTwice 24 = .ok (.iconst 1, 1) := dk_4 (dk_at dksX9_isTwice_1 0 rfl rfl)
theorem dX9_isTwice_25 : decode cX9_isTwice 25 = .ok (.goto 4, 3) := dk_167 0 4 (dk_at dksX9_isTwice_1 1 rfl rfl)
theorem dX9_isTwice_28 : decode cX9_isTwice 28 = .ok (.iconst 0, 1) := dk_3 (dk_at dksX9_isTwice_1 4 rfl rfl)
theorem dX9_isTwice_29 : decode cX9_isTwice 29 = .ok (.ireturn, 1) := dk_172 (dk_at dksX9_isTwice_1 5 rfl rfl)
def dkwX9_be_1 : List UInt8 := [43, 180, 0, 27, 181, 0, 27, 177]
abbrev dktX9_be_1 : List UInt8 := dkwX9_be_1 ++ []
def dkwX9_be_0 : List UInt8 := [43, 180, 0, 11, 3, 42, 180, 0, 11, 3, 16, 24, 184, 0, 17, 42, 43, 180, 0, 23, 181, 0, 23, 42]
abbrev dktX9_be_0 : List UInt8 := dkwX9_be_0 ++ dktX9_be_1
theorem dksX9_be_0 : cX9_be.data.toList.drop 0 = dktX9_be_0 := by decide +kernel
theorem dksX9_be_1 : cX9_be.data.toList.drop 24 = dktX9_be_1 := dk_seg dksX9_be_0 24 rfl rfl
theorem dX9_be_0 : decode cX9_be 0 = .ok (.aload_n 1, 1) := dk_43 (dk_at dksX9_be_0 0 rfl rfl)
theorem dX9_be_1 : decode cX9_be 1 = .ok (.getfield 11, 3) := dk_180 0 11 (dk_at dksX9_be_0 1 rfl rfl)
theorem dX9_be_4 : decode cX9_be 4 = .ok (.iconst 0, 1) := dk_3 (dk_at dksX9_be_0 4 rfl rfl)
theorem dX9_be_5 : decode cX9_be 5 = .ok (.aload_n 0, 1) := dk_42 (dk_at dksX9_be_0 5 rfl rfl)
theorem dX9_be_6 : decode cX9_be 6 = .ok (.getfield 11, 3) := dk_180 0 11 (dk_at dksX9_be_0 6 rfl rfl)
theorem dX9_be_9 : decode cX9_be 9 = .ok (.iconst 0, 1) := dk_3 (dk_at dksX9_be_0 9 rfl rfl)
theorem dX9_be_10 : decode cX9_be 10 = .ok (.bipush 24, 2) := dk_16 24 (dk_at dksX9_be_0 10 rfl rfl)
theorem dX9_be_12 : decode cX9_be 12 = .ok (.invokestatic 17, 3) := dk_184 0 17 (dk_at dksX9_be_0 12 rfl rfl)
theorem dX9_be_15 : decode cX9_be 15 = .ok (.aload_n 0, 1) := dk_42 (dk_at dksX9_be_0 15 rfl rfl)
theorem dX9_be_16 : decode cX9_be 16 = .ok (.aload_n 1, 1) := dk_43 (dk_at dksX9_be_0 16 rfl rfl)
theorem dX9_be_17 : decode cX9_be 17 = .ok (.getfield 23, 3) := dk_180 0 23 (dk_at dksX9_be_0 17 rfl rfl)
theorem dX9_be_20 : decode cX9_be 20 = .ok (.putfield 23, 3) := dk_181 0 23 (dk_at dksX9_be_0 20 rfl rfl)
theorem dX9_be_23 : decode cX9_be 23 = .ok (.aload_n 0, 1) := dk_42 (dk_at dksX9_be_0 23 rfl rfl)
theorem dX9_be_24 : decode cX9_be 24 = .ok (.aload_n 1, 1) := dk_43 (dk_at dksX9_be_1 0 rfl rfl)
theorem dX9_be_25 : decode cX9_be 25 = .ok (.getfield 27, 3) := dk_180 0 27 (dk_at dksX9_be_1 1 rfl rfl)
theorem dX9_be_28 : decode cX9_be 28 = .ok (.putfield 27, 3) := dk_181 0 27 (dk_at dksX9_be_1 4 rfl rfl)
theorem dX9_be_31 : decode cX9_be 31 = .ok (.return_, 1) := dk_177 (dk_at dksX9_be_1 7 rfl rfl)
def dkwX24_is_1 : List UInt8 := [43, 180, 0, 29, 42, 180, 0, 15, 46, 42, 180, 0, 21, 160, 0, 7, 4, 167, 0, 4, 3, 172]
abbrev dktX24_is_1 : List UInt8 := dkwX24_is_1 ++ []
def dkwX24_is_0 : List UInt8 := [43, 180, 0, 24, 42, 180, 0, 15, 46, 42, 180, 0, 18, 160, 0, 31, 42, 180, 0, 18, 2, 159, 0, 19]
abbrev dktX24_is_0 : List UInt8 := dkwX24_is_0 ++ dktX24_is_1
theorem dksX24_is_0 : cX24_is.data.toList.drop 0 = dktX24_is_0 := by decide +kernel
theorem dksX24_is_1 : cX24_is.data.toList.drop 24 = dktX24_is_1 := dk_seg dksX24_is_0 24 rfl rfl
theorem dX24_is_0 : decode cX24_is 0 = .ok (.aload_n 1, 1) := dk_43 (dk_at dksX24_is_0 0 rfl rfl)
theorem dX24_is_1 : decode cX24_is 1 = .ok (.getfield 24, 3) := dk_180 0 24 (dk_at dksX24_is_0 1 rfl rfl)
theorem dX24_is_4 : decode cX24_is 4 = .ok (.aload_n 0, 1) := dk_42 (dk_at dksX24_is_0 4 rfl rfl)
theorem dX24_is_5 : decode cX24_is 5 = .ok (.getfield 15, 3) := dk_180 0 15 (dk_at dksX24_is_0 5 rfl rfl)
theorem dX24_is_8 : decode cX24_is 8 = .ok (.iaload, 1) := dk_46 (dk_at dksX24_is_0 8 rfl rfl)
theorem dX24_is_9 : decode cX24_is 9 = .ok (.aload_n 0, 1) := dk_42 (dk_at dksX24_is_0 9 rfl rfl)
theorem dX24_is_10 : decode cX24_is 10 = .ok (.getfield 18, 3) := dk_180 0 18 (dk_at dksX24_is_0 10 rfl rfl)
theorem dX24_is_13 : decode cX24_is 13 = .ok (.if_icmp .ne 31, 3) := dk_160 0 31 (dk_at dksX24_is_0 13 rfl rfl)
theorem dX24_is_16 : decode cX24_is 16 = .ok (.aload_n 0, 1) := dk_42 (dk_at dksX24_is_0 16 rfl rfl)
theorem dX24_is_17 : decode cX24_is 17 = .ok (.getfield 18, 3) := dk_180 0 18 (dk_at dksX24_is_0 17 rfl rfl)
theorem dX24_is_20 : decode cX24_is 20 = .ok (.iconst (-1), 1) := dk_2 (dk_at dksX24_is_0 20 rfl rfl)
theorem dX24_is_21 : decode cX24_is 21 = .ok (.if_icmp .eq 19, 3) := dk_159 0 19 (dk_at dksX24_is_0 21 rfl rfl)
theorem dX24_is_24 : decode cX24_is 24 = .ok (.aload_n 1, 1) := dk_43 (dk_at dksX24_is_1 0 rfl rfl)
theorem dX24_is_25 : decode cX24_is 25 = .ok (.getfield 29, 3) := dk_180 0 29 (dk_at dksX24_is_1 1 rfl rfl)
theorem dX24_is_28 : decode cX24_is 28 = .ok (.aload_n 0, 1) := dk_42 (dk_at dksX24_is_1 4 rfl rfl)
theorem dX24_is_29 : decode cX24_is 29 = .ok (.getfield 15, 3) := dk_180 0 15 (dk_at dksX24_is_1 5 rfl rfl)
theorem dX24_is_32 : decode cX24_is 32 = .ok (.iaload, 1) := dk_46 (dk_at dksX24_is_1 8 rfl rfl)
theorem dX24_is_33 : decode cX24_is 33 = .ok (.aload_n 0, 1) := dk_42 (dk_at dksX24_is_1 9 rfl rfl)
theorem dX24_is_34 : decode cX24_is 34 = .ok (.getfield 21, 3) := dk_180 0 21 (dk_at dksX24_is_1 10 rfl rfl)
theorem dX24_is_37 : decode cX24_is 37 = .ok (.if_icmp .ne 7, 3) := dk_160 0 7 (dk_at dksX24_is_1 13 rfl rfl)
theorem dX24_is_40 : decode cX24_is 40 = .ok (.iconst 1, 1) := dk_4 (dk_at dksX24_is_1 16 rfl rfl)
theorem dX24_is_41 : decode cX24_is 41 = .ok (.goto 4, 3) := dk_167 0 4 (dk_at dksX24_is_1 17 rfl rfl)
theorem dX24_is_44 : decode cX24_is 44 = .ok (.iconst 0, 1) := dk_3 (dk_at dksX24_is_1 20 rfl rfl)
theorem dX24_is_45 : decode cX24_is 45 = .ok (.ireturn, 1) := dk_172 (dk_at dksX24_is_1 21 rfl rfl)
def dkwX24_init_1 : List UInt8 := [181, 0, 21, 177]
abbrev dktX24_init_1 : List UInt8 := dkwX24_init_1 ++ []
def dkwX24_init_0 : List UInt8 := [42, 183, 0, 3, 42, 27, 181, 0, 9, 42, 28, 181, 0, 15, 42, 29, 181, 0, 18, 42, 21, 4]
abbrev dktX24_init_0 : List UInt8 := dkwX24_init_0 ++ dktX24_init_1
theorem dksX24_init_0 : cX24_init.data.toList.drop 0 = dktX24_init_0 := by decide +kernel
theorem dksX24_init_1 : cX24_init.data.toList.drop 22 = dktX24_init_1 := dk_seg dksX24_init_0 22 rfl rfl
theorem dX24_init_0 : decode cX24_init 0 = .ok (.aload_n 0, 1) := dk_42 (dk_at dksX24_init_0 0 rfl rfl)
theorem dX24_init_1 : decode cX24_init 1 = .ok (.invokespecial 3, 3) := dk_183 0 3 (dk_at dksX24_init_0 1 rfl rfl)
theorem dX24_init_4 : decode cX24_init 4 = .ok (.aload_n 0, 1) := dk_42 (dk_at dksX24_init_0 4 rfl rfl)
theorem dX24_init_5 : decode cX24_init 5 = .ok (.iload_n 1, 1) := dk_27 (dk_at dksX24_init_0 5 rfl rfl)
theorem dX24_init_6 : decode cX24_init 6 = .ok (.putfield 9, 3) := dk_181 0 9 (dk_at dksX24_init_0 6 rfl rfl)
theorem dX24_init_9 : decode cX24_init 9 = .ok (.aload_n 0, 1) := dk_42 (dk_at dksX24_init_0 9 rfl rfl)
theorem dX24_init_10 : decode cX24_init 10 = .ok (.iload_n 2, 1) := dk_28 (dk_at dksX24_init_0 10 rfl rfl)
theorem dX24_init_11 : decode cX24_init 11 = .ok (.putfield 15, 3) := dk_181 0 15 (dk_at dksX24_init_0 11 rfl rfl)
theorem dX24_init_14 : decode cX24_init 14 = .ok (.aload_n 0, 1) := dk_42 (dk_at dksX24_init_0 14 rfl rfl)
theorem dX24_init_15 : decode cX24_init 15 = .ok (.iload_n 3, 1) := dk_29 (dk_at dksX24_init_0 15 rfl rfl)
theorem dX24_init_16 : decode cX24_init 16 = .ok (.putfield 18, 3) := dk_181 0 18 (dk_at dksX24_init_0 16 rfl rfl)
theorem dX24_init_19 : decode cX24_init 19 = .ok (.aload_n 0, 1) := dk_42 (dk_at dksX24_init_0 19 rfl rfl)
theorem dX24_init_20 : decode cX24_init 20 = .ok (.iload 4, 2) := dk_21 4 (dk_at dksX24_init_0 20 rfl rfl)
theorem dX24_init_22 : decode cX24_init 22 = .ok (.putfield 21, 3) := dk_181 0 21 (dk_at dksX24_init_1 0 rfl rfl)
theorem dX24_init_25 : decode cX24_init 25 = .ok (.return_, 1) := dk_177 (dk_at dksX24_init_1 3 rfl rfl)
def dkwX23_slip_12 : List UInt8 := [21, 12, 153, 0, 7, 6, 167, 0, 13, 21, 13, 153, 0, 7, 7, 167, 0, 4, 2, 172]
abbrev dktX23_slip_12 : List UInt8 := dkwX23_slip_12 ++ []
def dkwX23_slip_11 : List UInt8 := [21, 13, 153, 0, 22, 25, 5, 7, 46, 25, 5, 6, 46, 162, 0, 7, 7, 167, 0, 26, 6, 167, 0, 22]
abbrev dktX23_slip_11 : List UInt8 := dkwX23_slip_11 ++ dktX23_slip_12
def dkwX23_slip_10 : List UInt8 := [21, 9, 160, 0, 14, 25, 5, 7, 46, 158, 0, 7, 4, 167, 0, 4, 3, 54, 13, 21, 12, 153, 0, 27]
abbrev dktX23_slip_10 : List UInt8 := dkwX23_slip_10 ++ dktX23_slip_11
def dkwX23_slip_9 : List UInt8 := [160, 0, 14, 25, 5, 6, 46, 158, 0, 7, 4, 167, 0, 4, 3, 54, 12, 8, 42, 180, 0, 21, 100]
abbrev dktX23_slip_9 : List UInt8 := dkwX23_slip_9 ++ dktX23_slip_10
def dkwX23_slip_8 : List UInt8 := [21, 11, 46, 158, 0, 8, 21, 11, 167, 0, 4, 2, 172, 42, 180, 0, 21, 21, 9, 100, 184, 0, 37, 4]
abbrev dktX23_slip_8 : List UInt8 := dkwX23_slip_8 ++ dktX23_slip_9
def dkwX23_slip_7 : List UInt8 := [160, 0, 14, 25, 5, 5, 46, 158, 0, 7, 5, 167, 0, 4, 2, 172, 21, 11, 6, 159, 0, 18, 25, 5]
abbrev dktX23_slip_7 : List UInt8 := dkwX23_slip_7 ++ dktX23_slip_8
def dkwX23_slip_6 : List UInt8 := [184, 0, 34, 54, 11, 21, 11, 5, 160, 0, 30, 42, 180, 0, 18, 21, 7, 100, 184, 0, 37, 4]
abbrev dktX23_slip_6 : List UInt8 := dkwX23_slip_6 ++ dktX23_slip_7
def dkwX23_slip_5 : List UInt8 := [128, 54, 10, 21, 10, 154, 0, 5, 3, 172, 21, 10, 184, 0, 28, 4, 164, 0, 5, 2, 172, 21, 10]
abbrev dktX23_slip_5 : List UInt8 := dkwX23_slip_5 ++ dktX23_slip_6
def dkwX23_slip_4 : List UInt8 := [128, 42, 180, 0, 15, 2, 159, 0, 12, 42, 180, 0, 15, 21, 6, 160, 0, 7, 3, 167, 0, 5, 16, 32]
abbrev dktX23_slip_4 : List UInt8 := dkwX23_slip_4 ++ dktX23_slip_5
def dkwX23_slip_3 : List UInt8 := [160, 0, 7, 3, 167, 0, 4, 7, 128, 42, 180, 0, 21, 21, 9, 160, 0, 7, 3, 167, 0, 5, 16, 8]
abbrev dktX23_slip_3 : List UInt8 := dkwX23_slip_3 ++ dktX23_slip_4
def dkwX23_slip_2 : List UInt8 := [21, 8, 54, 9, 42, 180, 0, 9, 28, 160, 0, 7, 3, 167, 0, 4, 5, 42, 180, 0, 18, 21, 7]
abbrev dktX23_slip_2 : List UInt8 := dkwX23_slip_2 ++ dktX23_slip_3
def dkwX23_slip_1 : List UInt8 := [112, 16, 6, 108, 54, 8, 27, 4, 160, 0, 15, 29, 4, 160, 0, 10, 8, 21, 8, 100, 167, 0, 5]
abbrev dktX23_slip_1 : List UInt8 := dkwX23_slip_1 ++ dktX23_slip_2
def dkwX23_slip_0 : List UInt8 := [21, 4, 16, 36, 108, 16, 6, 112, 54, 6, 21, 4, 16, 36, 112, 16, 6, 112, 54, 7, 21, 4, 16, 36]
abbrev dktX23_slip_0 : List UInt8 := dkwX23_slip_0 ++ dktX23_slip_1
theorem dksX23_slip_0 : cX23_slip.data.toList.drop 0 = dktX23_slip_0 := by decide +kernel
theorem dksX23_slip_1 : cX23_slip.data.toList.drop 24 = dktX23_slip_1 := dk_seg dksX23_slip_0 24 rfl rfl
theorem dksX23_slip_2 : cX23_slip.data.toList.drop 47 = dktX23_slip_2 := dk_seg dksX23_slip_1 23 rfl rfl
theorem dksX23_slip_3 : cX23_slip.data.toList.drop 70 = dktX23_slip_3 := dk_seg dksX23_slip_2 23 rfl rfl
theorem dksX23_slip_4 : cX23_slip.data.toList.drop 94 = dktX23_slip_4 := dk_seg dksX23_slip_3 24 rfl rfl
theorem dksX23_slip_5 : cX23_slip.data.toList.drop 118 = dktX23_slip_5 := dk_seg dksX23_slip_4 24 rfl rfl
theorem dksX23_slip_6 : cX23_slip.data.toList.drop 141 = dktX23_slip_6 := dk_seg dksX23_slip_5 23 rfl rfl
theorem dksX23_slip_7 : cX23_slip.data.toList.drop 163 = dktX23_slip_7 := dk_seg dksX23_slip_6 22 rfl rfl
theorem dksX23_slip_8 : cX23_slip.data.toList.drop 187 = dktX23_slip_8 := dk_seg dksX23_slip_7 24 rfl rfl
theorem dksX23_slip_9 : cX23_slip.data.toList.drop 211 = dktX23_slip_9 := dk_seg dksX23_slip_8 24 rfl rfl
theorem dksX23_slip_10 : cX23_slip.data.toList.drop 234 = dktX23_slip_10 := dk_seg dksX23_slip_9 23 rfl rfl
theorem dksX23_slip_11 : cX23_slip.data.toList.drop 258 = dktX23_slip_11 := dk_seg dksX23_slip_10 24 rfl rfl
theorem dksX23_slip_12 : cX23_slip.data.toList.drop 282 = dktX23_slip_12 := dk_seg dksX23_slip_11 24 rfl rfl
theorem dX23_slip_0 : decode cX23_slip 0 = .ok (.iload 4, 2) := dk_21 4 (dk_at dksX23_slip_0 0 rfl rfl)
theorem dX23_slip_2 : decode cX23_slip 2 = .ok (.bipush 36, 2) := dk_16 36 (dk_at dksX23_slip_0 2 rfl rfl)
theorem dX23_slip_4 : decode cX23_slip 4 = .ok (.idiv, 1) := dk_108 (dk_at dksX23_slip_0 4 rfl rfl)
theorem dX23_slip_5 : decode cX23_slip 5 = .ok (.bipush 6, 2) := dk_16 6 (dk_at dksX23_slip_0 5 rfl rfl)
theorem dX23_slip_7 : decode cX23_slip 7 = .ok (.irem, 1) := dk_112 (dk_at dksX23_slip_0 7 rfl rfl)
theorem dX23_slip_8 : decode cX23_slip 8 = .ok (.istore 6, 2) := dk_54 6 (dk_at dksX23_slip_0 8 rfl rfl)
theorem dX23_slip_10 : decode cX23_slip 10 = .ok (.iload 4, 2) := dk_21 4 (dk_at dksX23_slip_0 10 rfl rfl)
theorem dX23_slip_12 : decode cX23_slip 12 = .ok (.bipush 36, 2) := dk_16 36 (dk_at dksX23_slip_0 12 rfl rfl)
theorem dX23_slip_14 : decode cX23_slip 14 = .ok (.irem, 1) := dk_112 (dk_at dksX23_slip_0 14 rfl rfl)
theorem dX23_slip_15 : decode cX23_slip 15 = .ok (.bipush 6, 2) := dk_16 6 (dk_at dksX23_slip_0 15 rfl rfl)
theorem dX23_slip_17 : decode cX23_slip 17 = .ok (.irem, 1) := dk_112 (dk_at dksX23_slip_0 17 rfl rfl)
theorem dX23_slip_18 : decode cX23_slip 18 = .ok (.istore 7, 2) := dk_54 7 (dk_at dksX23_slip_0 18 rfl rfl)
theorem dX23_slip_20 : decode cX23_slip 20 = .ok (.iload 4, 2) := dk_21 4 (dk_at dksX23_slip_0 20 rfl rfl)
theorem dX23_slip_22 : decode cX23_slip 22 = .ok (.bipush 36, 2) := dk_16 36 (dk_at dksX23_slip_0 22 rfl rfl)
theorem dX23_slip_24 : decode cX23_slip 24 = .ok (.irem, 1) := dk_112 (dk_at dksX23_slip_1 0 rfl rfl)
theorem dX23_slip_25 : decode cX23_slip 25 = .ok (.bipush 6, 2) := dk_16 6 (dk_at dksX23_slip_1 1 rfl rfl)
theorem dX23_slip_27 : decode cX23_slip 27 = .ok (.idiv, 1) := dk_108 (dk_at dksX23_slip_1 3 rfl rfl)
theorem dX23_slip_28 : decode cX23_slip 28 = .ok (.istore 8, 2) := dk_54 8 (dk_at dksX23_slip_1 4 rfl rfl)
theorem dX23_slip_30 : decode cX23_slip 30 = .ok (.iload_n 1, 1) := dk_27 (dk_at dksX23_slip_1 6 rfl rfl)
theorem dX23_slip_31 : decode cX23_slip 31 = .ok (.iconst 1, 1) := dk_4 (dk_at dksX23_slip_1 7 rfl rfl)
theorem dX23_slip_32 : decode cX23_slip 32 = .ok (.if_icmp .ne 15, 3) := dk_160 0 15 (dk_at dksX23_slip_1 8 rfl rfl)
theorem dX23_slip_35 : decode cX23_slip 35 = .ok (.iload_n 3, 1) := dk_29 (dk_at dksX23_slip_1 11 rfl rfl)
theorem dX23_slip_36 : decode cX23_slip 36 = .ok (.iconst 1, 1) := dk_4 (dk_at dksX23_slip_1 12 rfl rfl)
theorem dX23_slip_37 : decode cX23_slip 37 = .ok (.if_icmp .ne 10, 3) := dk_160 0 10 (dk_at dksX23_slip_1 13 rfl rfl)
theorem dX23_slip_40 : decode cX23_slip 40 = .ok (.iconst 5, 1) := dk_8 (dk_at dksX23_slip_1 16 rfl rfl)
theorem dX23_slip_41 : decode cX23_slip 41 = .ok (.iload 8, 2) := dk_21 8 (dk_at dksX23_slip_1 17 rfl rfl)
theorem dX23_slip_43 : decode cX23_slip 43 = .ok (.isub, 1) := dk_100 (dk_at dksX23_slip_1 19 rfl rfl)
theorem dX23_slip_44 : decode cX23_slip 44 = .ok (.goto 5, 3) := dk_167 0 5 (dk_at dksX23_slip_1 20 rfl rfl)
theorem dX23_slip_47 : decode cX23_slip 47 = .ok (.iload 8, 2) := dk_21 8 (dk_at dksX23_slip_2 0 rfl rfl)
theorem dX23_slip_49 : decode cX23_slip 49 = .ok (.istore 9, 2) := dk_54 9 (dk_at dksX23_slip_2 2 rfl rfl)
theorem dX23_slip_51 : decode cX23_slip 51 = .ok (.aload_n 0, 1) := dk_42 (dk_at dksX23_slip_2 4 rfl rfl)
theorem dX23_slip_52 : decode cX23_slip 52 = .ok (.getfield 9, 3) := dk_180 0 9 (dk_at dksX23_slip_2 5 rfl rfl)
theorem dX23_slip_55 : decode cX23_slip 55 = .ok (.iload_n 2, 1) := dk_28 (dk_at dksX23_slip_2 8 rfl rfl)
theorem dX23_slip_56 : decode cX23_slip 56 = .ok (.if_icmp .ne 7, 3) := dk_160 0 7 (dk_at dksX23_slip_2 9 rfl rfl)
theorem dX23_slip_59 : decode cX23_slip 59 = .ok (.iconst 0, 1) := dk_3 (dk_at dksX23_slip_2 12 rfl rfl)
theorem dX23_slip_60 : decode cX23_slip 60 = .ok (.goto 4, 3) := dk_167 0 4 (dk_at dksX23_slip_2 13 rfl rfl)
theorem dX23_slip_63 : decode cX23_slip 63 = .ok (.iconst 2, 1) := dk_5 (dk_at dksX23_slip_2 16 rfl rfl)
theorem dX23_slip_64 : decode cX23_slip 64 = .ok (.aload_n 0, 1) := dk_42 (dk_at dksX23_slip_2 17 rfl rfl)
theorem dX23_slip_65 : decode cX23_slip 65 = .ok (.getfield 18, 3) := dk_180 0 18 (dk_at dksX23_slip_2 18 rfl rfl)
theorem dX23_slip_68 : decode cX23_slip 68 = .ok (.iload 7, 2) := dk_21 7 (dk_at dksX23_slip_2 21 rfl rfl)
theorem dX23_slip_70 : decode cX23_slip 70 = .ok (.if_icmp .ne 7, 3) := dk_160 0 7 (dk_at dksX23_slip_3 0 rfl rfl)
theorem dX23_slip_73 : decode cX23_slip 73 = .ok (.iconst 0, 1) := dk_3 (dk_at dksX23_slip_3 3 rfl rfl)
theorem dX23_slip_74 : decode cX23_slip 74 = .ok (.goto 4, 3) := dk_167 0 4 (dk_at dksX23_slip_3 4 rfl rfl)
theorem dX23_slip_77 : decode cX23_slip 77 = .ok (.iconst 4, 1) := dk_7 (dk_at dksX23_slip_3 7 rfl rfl)
theorem dX23_slip_78 : decode cX23_slip 78 = .ok (.ior, 1) := dk_128 (dk_at dksX23_slip_3 8 rfl rfl)
theorem dX23_slip_79 : decode cX23_slip 79 = .ok (.aload_n 0, 1) := dk_42 (dk_at dksX23_slip_3 9 rfl rfl)
theorem dX23_slip_80 : decode cX23_slip 80 = .ok (.getfield 21, 3) := dk_180 0 21 (dk_at dksX23_slip_3 10 rfl rfl)
theorem dX23_slip_83 : decode cX23_slip 83 = .ok (.iload 9, 2) := dk_21 9 (dk_at dksX23_slip_3 13 rfl rfl)
theorem dX23_slip_85 : decode cX23_slip 85 = .ok (.if_icmp .ne 7, 3) := dk_160 0 7 (dk_at dksX23_slip_3 15 rfl rfl)
theorem dX23_slip_88 : decode cX23_slip 88 = .ok (.iconst 0, 1) := dk_3 (dk_at dksX23_slip_3 18 rfl rfl)
theorem dX23_slip_89 : decode cX23_slip 89 = .ok (.goto 5, 3) := dk_167 0 5 (dk_at dksX23_slip_3 19 rfl rfl)
theorem dX23_slip_92 : decode cX23_slip 92 = .ok (.bipush 8, 2) := dk_16 8 (dk_at dksX23_slip_3 22 rfl rfl)
theorem dX23_slip_94 : decode cX23_slip 94 = .ok (.ior, 1) := dk_128 (dk_at dksX23_slip_4 0 rfl rfl)
theorem dX23_slip_95 : decode cX23_slip 95 = .ok (.aload_n 0, 1) := dk_42 (dk_at dksX23_slip_4 1 rfl rfl)
theorem dX23_slip_96 : decode cX23_slip 96 = .ok (.getfield 15, 3) := dk_180 0 15 (dk_at dksX23_slip_4 2 rfl rfl)
theorem dX23_slip_99 : decode cX23_slip 99 = .ok (.iconst (-1), 1) := dk_2 (dk_at dksX23_slip_4 5 rfl rfl)
theorem dX23_slip_100 : decode cX23_slip 100 = .ok (.if_icmp .eq 12, 3) := dk_159 0 12 (dk_at dksX23_slip_4 6 rfl rfl)
theorem dX23_slip_103 : decode cX23_slip 103 = .ok (.aload_n 0, 1) := dk_42 (dk_at dksX23_slip_4 9 rfl rfl)
theorem dX23_slip_104 : decode cX23_slip 104 = .ok (.getfield 15, 3) := dk_180 0 15 (dk_at dksX23_slip_4 10 rfl rfl)
theorem dX23_slip_107 : decode cX23_slip 107 = .ok (.iload 6, 2) := dk_21 6 (dk_at dksX23_slip_4 13 rfl rfl)
theorem dX23_slip_109 : decode cX23_slip 109 = .ok (.if_icmp .ne 7, 3) := dk_160 0 7 (dk_at dksX23_slip_4 15 rfl rfl)
theorem dX23_slip_112 : decode cX23_slip 112 = .ok (.iconst 0, 1) := dk_3 (dk_at dksX23_slip_4 18 rfl rfl)
theorem dX23_slip_113 : decode cX23_slip 113 = .ok (.goto 5, 3) := dk_167 0 5 (dk_at dksX23_slip_4 19 rfl rfl)
theorem dX23_slip_116 : decode cX23_slip 116 = .ok (.bipush 32, 2) := dk_16 32 (dk_at dksX23_slip_4 22 rfl rfl)
theorem dX23_slip_118 : decode cX23_slip 118 = .ok (.ior, 1) := dk_128 (dk_at dksX23_slip_5 0 rfl rfl)
theorem dX23_slip_119 : decode cX23_slip 119 = .ok (.istore 10, 2) := dk_54 10 (dk_at dksX23_slip_5 1 rfl rfl)
theorem dX23_slip_121 : decode cX23_slip 121 = .ok (.iload 10, 2) := dk_21 10 (dk_at dksX23_slip_5 3 rfl rfl)
theorem dX23_slip_123 : decode cX23_slip 123 = .ok (.ifCond .ne 5, 3) := dk_154 0 5 (dk_at dksX23_slip_5 5 rfl rfl)
theorem dX23_slip_126 : decode cX23_slip 126 = .ok (.iconst 0, 1) := dk_3 (dk_at dksX23_slip_5 8 rfl rfl)
theorem dX23_slip_127 : decode cX23_slip 127 = .ok (.ireturn, 1) := dk_172 (dk_at dksX23_slip_5 9 rfl rfl)
theorem dX23_slip_128 : decode cX23_slip 128 = .ok (.iload 10, 2) := dk_21 10 (dk_at dksX23_slip_5 10 rfl rfl)
theorem dX23_slip_130 : decode cX23_slip 130 = .ok (.invokestatic 28, 3) := dk_184 0 28 (dk_at dksX23_slip_5 12 rfl rfl)
theorem dX23_slip_133 : decode cX23_slip 133 = .ok (.iconst 1, 1) := dk_4 (dk_at dksX23_slip_5 15 rfl rfl)
theorem dX23_slip_134 : decode cX23_slip 134 = .ok (.if_icmp .le 5, 3) := dk_164 0 5 (dk_at dksX23_slip_5 16 rfl rfl)
theorem dX23_slip_137 : decode cX23_slip 137 = .ok (.iconst (-1), 1) := dk_2 (dk_at dksX23_slip_5 19 rfl rfl)
theorem dX23_slip_138 : decode cX23_slip 138 = .ok (.ireturn, 1) := dk_172 (dk_at dksX23_slip_5 20 rfl rfl)
theorem dX23_slip_139 : decode cX23_slip 139 = .ok (.iload 10, 2) := dk_21 10 (dk_at dksX23_slip_5 21 rfl rfl)
theorem dX23_slip_141 : decode cX23_slip 141 = .ok (.invokestatic 34, 3) := dk_184 0 34 (dk_at dksX23_slip_6 0 rfl rfl)
theorem dX23_slip_144 : decode cX23_slip 144 = .ok (.istore 11, 2) := dk_54 11 (dk_at dksX23_slip_6 3 rfl rfl)
theorem dX23_slip_146 : decode cX23_slip 146 = .ok (.iload 11, 2) := dk_21 11 (dk_at dksX23_slip_6 5 rfl rfl)
theorem dX23_slip_148 : decode cX23_slip 148 = .ok (.iconst 2, 1) := dk_5 (dk_at dksX23_slip_6 7 rfl rfl)
theorem dX23_slip_149 : decode cX23_slip 149 = .ok (.if_icmp .ne 30, 3) := dk_160 0 30 (dk_at dksX23_slip_6 8 rfl rfl)
theorem dX23_slip_152 : decode cX23_slip 152 = .ok (.aload_n 0, 1) := dk_42 (dk_at dksX23_slip_6 11 rfl rfl)
theorem dX23_slip_153 : decode cX23_slip 153 = .ok (.getfield 18, 3) := dk_180 0 18 (dk_at dksX23_slip_6 12 rfl rfl)
theorem dX23_slip_156 : decode cX23_slip 156 = .ok (.iload 7, 2) := dk_21 7 (dk_at dksX23_slip_6 15 rfl rfl)
theorem dX23_slip_158 : decode cX23_slip 158 = .ok (.isub, 1) := dk_100 (dk_at dksX23_slip_6 17 rfl rfl)
theorem dX23_slip_159 : decode cX23_slip 159 = .ok (.invokestatic 37, 3) := dk_184 0 37 (dk_at dksX23_slip_6 18 rfl rfl)
theorem dX23_slip_162 : decode cX23_slip 162 = .ok (.iconst 1, 1) := dk_4 (dk_at dksX23_slip_6 21 rfl rfl)
theorem dX23_slip_163 : decode cX23_slip 163 = .ok (.if_icmp .ne 14, 3) := dk_160 0 14 (dk_at dksX23_slip_7 0 rfl rfl)
theorem dX23_slip_166 : decode cX23_slip 166 = .ok (.aload 5, 2) := dk_25 5 (dk_at dksX23_slip_7 3 rfl rfl)
theorem dX23_slip_168 : decode cX23_slip 168 = .ok (.iconst 2, 1) := dk_5 (dk_at dksX23_slip_7 5 rfl rfl)
theorem dX23_slip_169 : decode cX23_slip 169 = .ok (.iaload, 1) := dk_46 (dk_at dksX23_slip_7 6 rfl rfl)
theorem dX23_slip_170 : decode cX23_slip 170 = .ok (.ifCond .le 7, 3) := dk_158 0 7 (dk_at dksX23_slip_7 7 rfl rfl)
theorem dX23_slip_173 : decode cX23_slip 173 = .ok (.iconst 2, 1) := dk_5 (dk_at dksX23_slip_7 10 rfl rfl)
theorem dX23_slip_174 : decode cX23_slip 174 = .ok (.goto 4, 3) := dk_167 0 4 (dk_at dksX23_slip_7 11 rfl rfl)
theorem dX23_slip_177 : decode cX23_slip 177 = .ok (.iconst (-1), 1) := dk_2 (dk_at dksX23_slip_7 14 rfl rfl)
theorem dX23_slip_178 : decode cX23_slip 178 = .ok (.ireturn, 1) := dk_172 (dk_at dksX23_slip_7 15 rfl rfl)
theorem dX23_slip_179 : decode cX23_slip 179 = .ok (.iload 11, 2) := dk_21 11 (dk_at dksX23_slip_7 16 rfl rfl)
theorem dX23_slip_181 : decode cX23_slip 181 = .ok (.iconst 3, 1) := dk_6 (dk_at dksX23_slip_7 18 rfl rfl)
theorem dX23_slip_182 : decode cX23_slip 182 = .ok (.if_icmp .eq 18, 3) := dk_159 0 18 (dk_at dksX23_slip_7 19 rfl rfl)
theorem dX23_slip_185 : decode cX23_slip 185 = .ok (.aload 5, 2) := dk_25 5 (dk_at dksX23_slip_7 22 rfl rfl)
theorem dX23_slip_187 : decode cX23_slip 187 = .ok (.iload 11, 2) := dk_21 11 (dk_at dksX23_slip_8 0 rfl rfl)
theorem dX23_slip_189 : decode cX23_slip 189 = .ok (.iaload, 1) := dk_46 (dk_at dksX23_slip_8 2 rfl rfl)
theorem dX23_slip_190 : decode cX23_slip 190 = .ok (.ifCond .le 8, 3) := dk_158 0 8 (dk_at dksX23_slip_8 3 rfl rfl)
theorem dX23_slip_193 : decode cX23_slip 193 = .ok (.iload 11, 2) := dk_21 11 (dk_at dksX23_slip_8 6 rfl rfl)
theorem dX23_slip_195 : decode cX23_slip 195 = .ok (.goto 4, 3) := dk_167 0 4 (dk_at dksX23_slip_8 8 rfl rfl)
theorem dX23_slip_198 : decode cX23_slip 198 = .ok (.iconst (-1), 1) := dk_2 (dk_at dksX23_slip_8 11 rfl rfl)
theorem dX23_slip_199 : decode cX23_slip 199 = .ok (.ireturn, 1) := dk_172 (dk_at dksX23_slip_8 12 rfl rfl)
theorem dX23_slip_200 : decode cX23_slip 200 = .ok (.aload_n 0, 1) := dk_42 (dk_at dksX23_slip_8 13 rfl rfl)
theorem dX23_slip_201 : decode cX23_slip 201 = .ok (.getfield 21, 3) := dk_180 0 21 (dk_at dksX23_slip_8 14 rfl rfl)
theorem dX23_slip_204 : decode cX23_slip 204 = .ok (.iload 9, 2) := dk_21 9 (dk_at dksX23_slip_8 17 rfl rfl)
theorem dX23_slip_206 : decode cX23_slip 206 = .ok (.isub, 1) := dk_100 (dk_at dksX23_slip_8 19 rfl rfl)
theorem dX23_slip_207 : decode cX23_slip 207 = .ok (.invokestatic 37, 3) := dk_184 0 37 (dk_at dksX23_slip_8 20 rfl rfl)
theorem dX23_slip_210 : decode cX23_slip 210 = .ok (.iconst 1, 1) := dk_4 (dk_at dksX23_slip_8 23 rfl rfl)
theorem dX23_slip_211 : decode cX23_slip 211 = .ok (.if_icmp .ne 14, 3) := dk_160 0 14 (dk_at dksX23_slip_9 0 rfl rfl)
theorem dX23_slip_214 : decode cX23_slip 214 = .ok (.aload 5, 2) := dk_25 5 (dk_at dksX23_slip_9 3 rfl rfl)
theorem dX23_slip_216 : decode cX23_slip 216 = .ok (.iconst 3, 1) := dk_6 (dk_at dksX23_slip_9 5 rfl rfl)
theorem dX23_slip_217 : decode cX23_slip 217 = .ok (.iaload, 1) := dk_46 (dk_at dksX23_slip_9 6 rfl rfl)
theorem dX23_slip_218 : decode cX23_slip 218 = .ok (.ifCond .le 7, 3) := dk_158 0 7 (dk_at dksX23_slip_9 7 rfl rfl)
theorem dX23_slip_221 : decode cX23_slip 221 = .ok (.iconst 1, 1) := dk_4 (dk_at dksX23_slip_9 10 rfl rfl)
theorem dX23_slip_222 : decode cX23_slip 222 = .ok (.goto 4, 3) := dk_167 0 4 (dk_at dksX23_slip_9 11 rfl rfl)
theorem dX23_slip_225 : decode cX23_slip 225 = .ok (.iconst 0, 1) := dk_3 (dk_at dksX23_slip_9 14 rfl rfl)
theorem dX23_slip_226 : decode cX23_slip 226 = .ok (.istore 12, 2) := dk_54 12 (dk_at dksX23_slip_9 15 rfl rfl)
theorem dX23_slip_228 : decode cX23_slip 228 = .ok (.iconst 5, 1) := dk_8 (dk_at dksX23_slip_9 17 rfl rfl)
theorem dX23_slip_229 : decode cX23_slip 229 = .ok (.aload_n 0, 1) := dk_42 (dk_at dksX23_slip_9 18 rfl rfl)
theorem dX23_slip_230 : decode cX23_slip 230 = .ok (.getfield 21, 3) := dk_180 0 21 (dk_at dksX23_slip_9 19 rfl rfl)
theorem dX23_slip_233 : decode cX23_slip 233 = .ok (.isub, 1) := dk_100 (dk_at dksX23_slip_9 22 rfl rfl)
theorem dX23_slip_234 : decode cX23_slip 234 = .ok (.iload 9, 2) := dk_21 9 (dk_at dksX23_slip_10 0 rfl rfl)
theorem dX23_slip_236 : decode cX23_slip 236 = .ok (.if_icmp .ne 14, 3) := dk_160 0 14 (dk_at dksX23_slip_10 2 rfl rfl)
theorem dX23_slip_239 : decode cX23_slip 239 = .ok (.aload 5, 2) := dk_25 5 (dk_at dksX23_slip_10 5 rfl rfl)
theorem dX23_slip_241 : decode cX23_slip 241 = .ok (.iconst 4, 1) := dk_7 (dk_at dksX23_slip_10 7 rfl rfl)
theorem dX23_slip_242 : decode cX23_slip 242 = .ok (.iaload, 1) := dk_46 (dk_at dksX23_slip_10 8 rfl rfl)
theorem dX23_slip_243 : decode cX23_slip 243 = .ok (.ifCond .le 7, 3) := dk_158 0 7 (dk_at dksX23_slip_10 9 rfl rfl)
theorem dX23_slip_246 : decode cX23_slip 246 = .ok (.iconst 1, 1) := dk_4 (dk_at dksX23_slip_10 12 rfl rfl)
theorem dX23_slip_247 : decode cX23_slip 247 = .ok (.goto 4, 3) := dk_167 0 4 (dk_at dksX23_slip_10 13 rfl rfl)
theorem dX23_slip_250 : decode cX23_slip 250 = .ok (.iconst 0, 1) := dk_3 (dk_at dksX23_slip_10 16 rfl rfl)
theorem dX23_slip_251 : decode cX23_slip 251 = .ok (.istore 13, 2) := dk_54 13 (dk_at dksX23_slip_10 17 rfl rfl)
theorem dX23_slip_253 : decode cX23_slip 253 = .ok (.iload 12, 2) := dk_21 12 (dk_at dksX23_slip_10 19 rfl rfl)
theorem dX23_slip_255 : decode cX23_slip 255 = .ok (.ifCond .eq 27, 3) := dk_153 0 27 (dk_at dksX23_slip_10 21 rfl rfl)
theorem dX23_slip_258 : decode cX23_slip 258 = .ok (.iload 13, 2) := dk_21 13 (dk_at dksX23_slip_11 0 rfl rfl)
theorem dX23_slip_260 : decode cX23_slip 260 = .ok (.ifCond .eq 22, 3) := dk_153 0 22 (dk_at dksX23_slip_11 2 rfl rfl)
theorem dX23_slip_263 : decode cX23_slip 263 = .ok (.aload 5, 2) := dk_25 5 (dk_at dksX23_slip_11 5 rfl rfl)
theorem dX23_slip_265 : decode cX23_slip 265 = .ok (.iconst 4, 1) := dk_7 (dk_at dksX23_slip_11 7 rfl rfl)
theorem dX23_slip_266 : decode cX23_slip 266 = .ok (.iaload, 1) := dk_46 (dk_at dksX23_slip_11 8 rfl rfl)
theorem dX23_slip_267 : decode cX23_slip 267 = .ok (.aload 5, 2) := dk_25 5 (dk_at dksX23_slip_11 9 rfl rfl)
theorem dX23_slip_269 : decode cX23_slip 269 = .ok (.iconst 3, 1) := dk_6 (dk_at dksX23_slip_11 11 rfl rfl)
theorem dX23_slip_270 : decode cX23_slip 270 = .ok (.iaload, 1) := dk_46 (dk_at dksX23_slip_11 12 rfl rfl)
theorem dX23_slip_271 : decode cX23_slip 271 = .ok (.if_icmp .ge 7, 3) := dk_162 0 7 (dk_at dksX23_slip_11 13 rfl rfl)
theorem dX23_slip_274 : decode cX23_slip 274 = .ok (.iconst 4, 1) := dk_7 (dk_at dksX23_slip_11 16 rfl rfl)
theorem dX23_slip_275 : decode cX23_slip 275 = .ok (.goto 26, 3) := dk_167 0 26 (dk_at dksX23_slip_11 17 rfl rfl)
theorem dX23_slip_278 : decode cX23_slip 278 = .ok (.iconst 3, 1) := dk_6 (dk_at dksX23_slip_11 20 rfl rfl)
theorem dX23_slip_279 : decode cX23_slip 279 = .ok (.goto 22, 3) := dk_167 0 22 (dk_at dksX23_slip_11 21 rfl rfl)
theorem dX23_slip_282 : decode cX23_slip 282 = .ok (.iload 12, 2) := dk_21 12 (dk_at dksX23_slip_12 0 rfl rfl)
theorem dX23_slip_284 : decode cX23_slip 284 = .ok (.ifCond .eq 7, 3) := dk_153 0 7 (dk_at dksX23_slip_12 2 rfl rfl)
theorem dX23_slip_287 : decode cX23_slip 287 = .ok (.iconst 3, 1) := dk_6 (dk_at dksX23_slip_12 5 rfl rfl)
theorem dX23_slip_288 : decode cX23_slip 288 = .ok (.goto 13, 3) := dk_167 0 13 (dk_at dksX23_slip_12 6 rfl rfl)
theorem dX23_slip_291 : decode cX23_slip 291 = .ok (.iload 13, 2) := dk_21 13 (dk_at dksX23_slip_12 9 rfl rfl)
theorem dX23_slip_293 : decode cX23_slip 293 = .ok (.ifCond .eq 7, 3) := dk_153 0 7 (dk_at dksX23_slip_12 11 rfl rfl)
theorem dX23_slip_296 : decode cX23_slip 296 = .ok (.iconst 4, 1) := dk_7 (dk_at dksX23_slip_12 14 rfl rfl)
theorem dX23_slip_297 : decode cX23_slip 297 = .ok (.goto 4, 3) := dk_167 0 4 (dk_at dksX23_slip_12 15 rfl rfl)
theorem dX23_slip_300 : decode cX23_slip 300 = .ok (.iconst (-1), 1) := dk_2 (dk_at dksX23_slip_12 18 rfl rfl)
theorem dX23_slip_301 : decode cX23_slip 301 = .ok (.ireturn, 1) := dk_172 (dk_at dksX23_slip_12 19 rfl rfl)
def dkwX23_isLike_1 : List UInt8 := [172]
abbrev dktX23_isLike_1 : List UInt8 := dkwX23_isLike_1 ++ []
def dkwX23_isLike_0 : List UInt8 := [42, 180, 0, 15, 43, 180, 0, 15, 160, 0, 15, 42, 43, 182, 0, 24, 153, 0, 7, 4, 167, 0, 4, 3]
abbrev dktX23_isLike_0 : List UInt8 := dkwX23_isLike_0 ++ dktX23_isLike_1
theorem dksX23_isLike_0 : cX23_isLike.data.toList.drop 0 = dktX23_isLike_0 := by decide +kernel
theorem dksX23_isLike_1 : cX23_isLike.data.toList.drop 24 = dktX23_isLike_1 := dk_seg dksX23_isLike_0 24 rfl rfl
theorem dX23_isLike_0 : decode cX23_isLike 0 = .ok (.aload_n 0, 1) := dk_42 (dk_at dksX23_isLike_0 0 rfl rfl)
theorem dX23_isLike_1 : decode cX23_isLike 1 = .ok (.getfield 15, 3) := dk_180 0 15 (dk_at dksX23_isLike_0 1 rfl rfl)
theorem dX23_isLike_4 : decode cX23_isLike 4 = .ok (.aload_n 1, 1) := dk_43 (dk_at dksX23_isLike_0 4 rfl rfl)
theorem dX23_isLike_5 : decode cX23_isLike 5 = .ok (.getfield 15, 3) := dk_180 0 15 (dk_at dksX23_isLike_0 5 rfl rfl)
theorem dX23_isLike_8 : decode cX23_isLike 8 = .ok (.if_icmp .ne 15, 3) := dk_160 0 15 (dk_at dksX23_isLike_0 8 rfl rfl)
theorem dX23_isLike_11 : decode cX23_isLike 11 = .ok (.aload_n 0, 1) := dk_42 (dk_at dksX23_isLike_0 11 rfl rfl)
theorem dX23_isLike_12 : decode cX23_isLike 12 = .ok (.aload_n 1, 1) := dk_43 (dk_at dksX23_isLike_0 12 rfl rfl)
theorem dX23_isLike_13 : decode cX23_isLike 13 = .ok (.invokevirtual 24, 3) := dk_182 0 24 (dk_at dksX23_isLike_0 13 rfl rfl)
theorem dX23_isLike_16 : decode cX23_isLike 16 = .ok (.ifCond .eq 7, 3) := dk_153 0 7 (dk_at dksX23_isLike_0 16 rfl rfl)
theorem dX23_isLike_19 : decode cX23_isLike 19 = .ok (.iconst 1, 1) := dk_4 (dk_at dksX23_isLike_0 19 rfl rfl)
theorem dX23_isLike_20 : decode cX23_isLike 20 = .ok (.goto 4, 3) := dk_167 0 4 (dk_at dksX23_isLike_0 20 rfl rfl)
theorem dX23_isLike_23 : decode cX23_isLike 23 = .ok (.iconst 0, 1) := dk_3 (dk_at dksX23_isLike_0 23 rfl rfl)
theorem dX23_isLike_24 : decode cX23_isLike 24 = .ok (.ireturn, 1) := dk_172 (dk_at dksX23_isLike_1 0 rfl rfl)
def dkwX23_isNearly_1 : List UInt8 := [180, 0, 21, 43, 180, 0, 21, 160, 0, 7, 4, 167, 0, 4, 3, 172]
abbrev dktX23_isNearly_1 : List UInt8 := dkwX23_isNearly_1 ++ []
def dkwX23_isNearly_0 : List UInt8 := [42, 180, 0, 9, 43, 180, 0, 9, 160, 0, 29, 42, 180, 0, 18, 43, 180, 0, 18, 160, 0, 18, 42]
abbrev dktX23_isNearly_0 : List UInt8 := dkwX23_isNearly_0 ++ dktX23_isNearly_1
theorem dksX23_isNearly_0 : cX23_isNearly.data.toList.drop 0 = dktX23_isNearly_0 := by decide +kernel
theorem dksX23_isNearly_1 : cX23_isNearly.data.toList.drop 23 = dktX23_isNearly_1 := dk_seg dksX23_isNearly_0 23 rfl rfl
theorem dX23_isNearly_0 : decode cX23_isNearly 0 = .ok (.aload_n 0, 1) := dk_42 (dk_at dksX23_isNearly_0 0 rfl rfl)
theorem dX23_isNearly_1 : decode cX23_isNearly 1 = .ok (.getfield 9, 3) := dk_180 0 9 (dk_at dksX23_isNearly_0 1 rfl rfl)
theorem dX23_isNearly_4 : decode cX23_isNearly 4 = .ok (.aload_n 1, 1) := dk_43 (dk_at dksX23_isNearly_0 4 rfl rfl)
theorem dX23_isNearly_5 : decode cX23_isNearly 5 = .ok (.getfield 9, 3) := dk_180 0 9 (dk_at dksX23_isNearly_0 5 rfl rfl)
theorem dX23_isNearly_8 : decode cX23_isNearly 8 = .ok (.if_icmp .ne 29, 3) := dk_160 0 29 (dk_at dksX23_isNearly_0 8 rfl rfl)
theorem dX23_isNearly_11 : decode cX23_isNearly 11 = .ok (.aload_n 0, 1) := dk_42 (dk_at dksX23_isNearly_0 11 rfl rfl)
theorem dX23_isNearly_12 : decode cX23_isNearly 12 = .ok (.getfield 18, 3) := dk_180 0 18 (dk_at dksX23_isNearly_0 12 rfl rfl)
theorem dX23_isNearly_15 : decode cX23_isNearly 15 = .ok (.aload_n 1, 1) := dk_43 (dk_at dksX23_isNearly_0 15 rfl rfl)
theorem dX23_isNearly_16 : decode cX23_isNearly 16 = .ok (.getfield 18, 3) := dk_180 0 18 (dk_at dksX23_isNearly_0 16 rfl rfl)
theorem dX23_isNearly_19 : decode cX23_isNearly 19 = .ok (.if_icmp .ne 18, 3) := dk_160 0 18 (dk_at dksX23_isNearly_0 19 rfl rfl)
theorem dX23_isNearly_22 : decode cX23_isNearly 22 = .ok (.aload_n 0, 1) := dk_42 (dk_at dksX23_isNearly_0 22 rfl rfl)
theorem dX23_isNearly_23 : decode cX23_isNearly 23 = .ok (.getfield 21, 3) := dk_180 0 21 (dk_at dksX23_isNearly_1 0 rfl rfl)
theorem dX23_isNearly_26 : decode cX23_isNearly 26 = .ok (.aload_n 1, 1) := dk_43 (dk_at dksX23_isNearly_1 3 rfl rfl)
theorem dX23_isNearly_27 : decode cX23_isNearly 27 = .ok (.getfield 21, 3) := dk_180 0 21 (dk_at dksX23_isNearly_1 4 rfl rfl)
theorem dX23_isNearly_30 : decode cX23_isNearly 30 = .ok (.if_icmp .ne 7, 3) := dk_160 0 7 (dk_at dksX23_isNearly_1 7 rfl rfl)
theorem dX23_isNearly_33 : decode cX23_isNearly 33 = .ok (.iconst 1, 1) := dk_4 (dk_at dksX23_isNearly_1 10 rfl rfl)
theorem dX23_isNearly_34 : decode cX23_isNearly 34 = .ok (.goto 4, 3) := dk_167 0 4 (dk_at dksX23_isNearly_1 11 rfl rfl)
theorem dX23_isNearly_37 : decode cX23_isNearly 37 = .ok (.iconst 0, 1) := dk_3 (dk_at dksX23_isNearly_1 14 rfl rfl)
theorem dX23_isNearly_38 : decode cX23_isNearly 38 = .ok (.ireturn, 1) := dk_172 (dk_at dksX23_isNearly_1 15 rfl rfl)
def dkwX23_init_1 : List UInt8 := [181, 0, 21, 177]
abbrev dktX23_init_1 : List UInt8 := dkwX23_init_1 ++ []
def dkwX23_init_0 : List UInt8 := [42, 183, 0, 3, 42, 27, 181, 0, 9, 42, 28, 181, 0, 15, 42, 29, 181, 0, 18, 42, 21, 4]
abbrev dktX23_init_0 : List UInt8 := dkwX23_init_0 ++ dktX23_init_1
theorem dksX23_init_0 : cX23_init.data.toList.drop 0 = dktX23_init_0 := by decide +kernel
theorem dksX23_init_1 : cX23_init.data.toList.drop 22 = dktX23_init_1 := dk_seg dksX23_init_0 22 rfl rfl
theorem dX23_init_0 : decode cX23_init 0 = .ok (.aload_n 0, 1) := dk_42 (dk_at dksX23_init_0 0 rfl rfl)
theorem dX23_init_1 : decode cX23_init 1 = .ok (.invokespecial 3, 3) := dk_183 0 3 (dk_at dksX23_init_0 1 rfl rfl)
theorem dX23_init_4 : decode cX23_init 4 = .ok (.aload_n 0, 1) := dk_42 (dk_at dksX23_init_0 4 rfl rfl)
theorem dX23_init_5 : decode cX23_init 5 = .ok (.iload_n 1, 1) := dk_27 (dk_at dksX23_init_0 5 rfl rfl)
theorem dX23_init_6 : decode cX23_init 6 = .ok (.putfield 9, 3) := dk_181 0 9 (dk_at dksX23_init_0 6 rfl rfl)
theorem dX23_init_9 : decode cX23_init 9 = .ok (.aload_n 0, 1) := dk_42 (dk_at dksX23_init_0 9 rfl rfl)
theorem dX23_init_10 : decode cX23_init 10 = .ok (.iload_n 2, 1) := dk_28 (dk_at dksX23_init_0 10 rfl rfl)
theorem dX23_init_11 : decode cX23_init 11 = .ok (.putfield 15, 3) := dk_181 0 15 (dk_at dksX23_init_0 11 rfl rfl)
theorem dX23_init_14 : decode cX23_init 14 = .ok (.aload_n 0, 1) := dk_42 (dk_at dksX23_init_0 14 rfl rfl)
theorem dX23_init_15 : decode cX23_init 15 = .ok (.iload_n 3, 1) := dk_29 (dk_at dksX23_init_0 15 rfl rfl)
theorem dX23_init_16 : decode cX23_init 16 = .ok (.putfield 18, 3) := dk_181 0 18 (dk_at dksX23_init_0 16 rfl rfl)
theorem dX23_init_19 : decode cX23_init 19 = .ok (.aload_n 0, 1) := dk_42 (dk_at dksX23_init_0 19 rfl rfl)
theorem dX23_init_20 : decode cX23_init 20 = .ok (.iload 4, 2) := dk_21 4 (dk_at dksX23_init_0 20 rfl rfl)
theorem dX23_init_22 : decode cX23_init 22 = .ok (.putfield 21, 3) := dk_181 0 21 (dk_at dksX23_init_1 0 rfl rfl)
theorem dX23_init_25 : decode cX23_init 25 = .ok (.return_, 1) := dk_177 (dk_at dksX23_init_1 3 rfl rfl)
def dkwX12_init_1 : List UInt8 := [29, 184, 0, 19, 177]
abbrev dktX12_init_1 : List UInt8 := dkwX12_init_1 ++ []
def dkwX12_init_0 : List UInt8 := [42, 183, 0, 1, 42, 27, 181, 0, 7, 42, 29, 189, 0, 13, 181, 0, 15, 44, 3, 42, 180, 0, 15, 3]
abbrev dktX12_init_0 : List UInt8 := dkwX12_init_0 ++ dktX12_init_1
theorem dksX12_init_0 : cX12_init.data.toList.drop 0 = dktX12_init_0 := by decide +kernel
theorem dksX12_init_1 : cX12_init.data.toList.drop 24 = dktX12_init_1 := dk_seg dksX12_init_0 24 rfl rfl
theorem dX12_init_0 : decode cX12_init 0 = .ok (.aload_n 0, 1) := dk_42 (dk_at dksX12_init_0 0 rfl rfl)
theorem dX12_init_1 : decode cX12_init 1 = .ok (.invokespecial 1, 3) := dk_183 0 1 (dk_at dksX12_init_0 1 rfl rfl)
theorem dX12_init_4 : decode cX12_init 4 = .ok (.aload_n 0, 1) := dk_42 (dk_at dksX12_init_0 4 rfl rfl)
theorem dX12_init_5 : decode cX12_init 5 = .ok (.iload_n 1, 1) := dk_27 (dk_at dksX12_init_0 5 rfl rfl)
theorem dX12_init_6 : decode cX12_init 6 = .ok (.putfield 7, 3) := dk_181 0 7 (dk_at dksX12_init_0 6 rfl rfl)
theorem dX12_init_9 : decode cX12_init 9 = .ok (.aload_n 0, 1) := dk_42 (dk_at dksX12_init_0 9 rfl rfl)
theorem dX12_init_10 : decode cX12_init 10 = .ok (.iload_n 3, 1) := dk_29 (dk_at dksX12_init_0 10 rfl rfl)
theorem dX12_init_11 : decode cX12_init 11 = .ok (.anewarray 13, 3) := dk_189 0 13 (dk_at dksX12_init_0 11 rfl rfl)
theorem dX12_init_14 : decode cX12_init 14 = .ok (.putfield 15, 3) := dk_181 0 15 (dk_at dksX12_init_0 14 rfl rfl)
theorem dX12_init_17 : decode cX12_init 17 = .ok (.aload_n 2, 1) := dk_44 (dk_at dksX12_init_0 17 rfl rfl)
theorem dX12_init_18 : decode cX12_init 18 = .ok (.iconst 0, 1) := dk_3 (dk_at dksX12_init_0 18 rfl rfl)
theorem dX12_init_19 : decode cX12_init 19 = .ok (.aload_n 0, 1) := dk_42 (dk_at dksX12_init_0 19 rfl rfl)
theorem dX12_init_20 : decode cX12_init 20 = .ok (.getfield 15, 3) := dk_180 0 15 (dk_at dksX12_init_0 20 rfl rfl)
theorem dX12_init_23 : decode cX12_init 23 = .ok (.iconst 0, 1) := dk_3 (dk_at dksX12_init_0 23 rfl rfl)
theorem dX12_init_24 : decode cX12_init 24 = .ok (.iload_n 3, 1) := dk_29 (dk_at dksX12_init_1 0 rfl rfl)
theorem dX12_init_25 : decode cX12_init 25 = .ok (.invokestatic 19, 3) := dk_184 0 19 (dk_at dksX12_init_1 1 rfl rfl)
theorem dX12_init_28 : decode cX12_init 28 = .ok (.return_, 1) := dk_177 (dk_at dksX12_init_1 4 rfl rfl)
def dkwX19_of_1 : List UInt8 := [61, 132, 3, 1, 167, 255, 235, 28, 172]
abbrev dktX19_of_1 : List UInt8 := dkwX19_of_1 ++ []
def dkwX19_of_0 : List UInt8 := [42, 180, 0, 15, 61, 3, 62, 29, 7, 162, 0, 22, 28, 42, 180, 0, 9, 29, 46, 43, 29, 46, 104, 96]
abbrev dktX19_of_0 : List UInt8 := dkwX19_of_0 ++ dktX19_of_1
theorem dksX19_of_0 : cX19_of.data.toList.drop 0 = dktX19_of_0 := by decide +kernel
theorem dksX19_of_1 : cX19_of.data.toList.drop 24 = dktX19_of_1 := dk_seg dksX19_of_0 24 rfl rfl
theorem dX19_of_0 : decode cX19_of 0 = .ok (.aload_n 0, 1) := dk_42 (dk_at dksX19_of_0 0 rfl rfl)
theorem dX19_of_1 : decode cX19_of 1 = .ok (.getfield 15, 3) := dk_180 0 15 (dk_at dksX19_of_0 1 rfl rfl)
theorem dX19_of_4 : decode cX19_of 4 = .ok (.istore_n 2, 1) := dk_61 (dk_at dksX19_of_0 4 rfl rfl)
theorem dX19_of_5 : decode cX19_of 5 = .ok (.iconst 0, 1) := dk_3 (dk_at dksX19_of_0 5 rfl rfl)
theorem dX19_of_6 : decode cX19_of 6 = .ok (.istore_n 3, 1) := dk_62 (dk_at dksX19_of_0 6 rfl rfl)
theorem dX19_of_7 : decode cX19_of 7 = .ok (.iload_n 3, 1) := dk_29 (dk_at dksX19_of_0 7 rfl rfl)
theorem dX19_of_8 : decode cX19_of 8 = .ok (.iconst 4, 1) := dk_7 (dk_at dksX19_of_0 8 rfl rfl)
theorem dX19_of_9 : decode cX19_of 9 = .ok (.if_icmp .ge 22, 3) := dk_162 0 22 (dk_at dksX19_of_0 9 rfl rfl)
theorem dX19_of_12 : decode cX19_of 12 = .ok (.iload_n 2, 1) := dk_28 (dk_at dksX19_of_0 12 rfl rfl)
theorem dX19_of_13 : decode cX19_of 13 = .ok (.aload_n 0, 1) := dk_42 (dk_at dksX19_of_0 13 rfl rfl)
theorem dX19_of_14 : decode cX19_of 14 = .ok (.getfield 9, 3) := dk_180 0 9 (dk_at dksX19_of_0 14 rfl rfl)
theorem dX19_of_17 : decode cX19_of 17 = .ok (.iload_n 3, 1) := dk_29 (dk_at dksX19_of_0 17 rfl rfl)
theorem dX19_of_18 : decode cX19_of 18 = .ok (.iaload, 1) := dk_46 (dk_at dksX19_of_0 18 rfl rfl)
theorem dX19_of_19 : decode cX19_of 19 = .ok (.aload_n 1, 1) := dk_43 (dk_at dksX19_of_0 19 rfl rfl)
theorem dX19_of_20 : decode cX19_of 20 = .ok (.iload_n 3, 1) := dk_29 (dk_at dksX19_of_0 20 rfl rfl)
theorem dX19_of_21 : decode cX19_of 21 = .ok (.iaload, 1) := dk_46 (dk_at dksX19_of_0 21 rfl rfl)
theorem dX19_of_22 : decode cX19_of 22 = .ok (.imul, 1) := dk_104 (dk_at dksX19_of_0 22 rfl rfl)
theorem dX19_of_23 : decode cX19_of 23 = .ok (.iadd, 1) := dk_96 (dk_at dksX19_of_0 23 rfl rfl)
theorem dX19_of_24 : decode cX19_of 24 = .ok (.istore_n 2, 1) := dk_61 (dk_at dksX19_of_1 0 rfl rfl)
theorem dX19_of_25 : decode cX19_of 25 = .ok (.iinc 3 1, 3) := dk_132 3 1 (dk_at dksX19_of_1 1 rfl rfl)
theorem dX19_of_28 : decode cX19_of 28 = .ok (.goto (-21), 3) := dk_167 255 235 (dk_at dksX19_of_1 4 rfl rfl)
theorem dX19_of_31 : decode cX19_of 31 = .ok (.iload_n 2, 1) := dk_28 (dk_at dksX19_of_1 7 rfl rfl)
theorem dX19_of_32 : decode cX19_of 32 = .ok (.ireturn, 1) := dk_172 (dk_at dksX19_of_1 8 rfl rfl)
def dkwX19_init_0 : List UInt8 := [42, 183, 0, 3, 42, 7, 188, 10, 181, 0, 9, 177]
abbrev dktX19_init_0 : List UInt8 := dkwX19_init_0 ++ []
theorem dksX19_init_0 : cX19_init.data.toList.drop 0 = dktX19_init_0 := by decide +kernel
theorem dX19_init_0 : decode cX19_init 0 = .ok (.aload_n 0, 1) := dk_42 (dk_at dksX19_init_0 0 rfl rfl)
theorem dX19_init_1 : decode cX19_init 1 = .ok (.invokespecial 3, 3) := dk_183 0 3 (dk_at dksX19_init_0 1 rfl rfl)
theorem dX19_init_4 : decode cX19_init 4 = .ok (.aload_n 0, 1) := dk_42 (dk_at dksX19_init_0 4 rfl rfl)
theorem dX19_init_5 : decode cX19_init 5 = .ok (.iconst 4, 1) := dk_7 (dk_at dksX19_init_0 5 rfl rfl)
theorem dX19_init_6 : decode cX19_init 6 = .ok (.newarray .int, 2) := dk_188_10 (dk_at dksX19_init_0 6 rfl rfl)
theorem dX19_init_8 : decode cX19_init 8 = .ok (.putfield 9, 3) := dk_181 0 9 (dk_at dksX19_init_0 8 rfl rfl)
theorem dX19_init_11 : decode cX19_init 11 = .ok (.return_, 1) := dk_177 (dk_at dksX19_init_0 11 rfl rfl)
theorem dX3_init_0 : decode cX3_init 0 = .ok (.aload_n 0, 1) := by decide +kernel
theorem dX3_init_1 : decode cX3_init 1 = .ok (.invokespecial 3, 3) := by decide +kernel
theorem dX3_init_4 : decode cX3_init 4 = .ok (.return_, 1) := by decide +kernel
def dkwX3_slides_5 : List UInt8 := [167, 255, 159, 177]
abbrev dktX3_slides_5 : List UInt8 := dkwX3_slides_5 ++ []
def dkwX3_slides_4 : List UInt8 := [25, 7, 21, 11, 4, 84, 21, 8, 29, 96, 54, 8, 21, 9, 21, 4, 96, 54, 9, 132, 10, 1]
abbrev dktX3_slides_4 : List UInt8 := dkwX3_slides_4 ++ dktX3_slides_5
def dkwX3_slides_3 : List UInt8 := [21, 6, 153, 0, 20, 42, 180, 0, 15, 21, 11, 46, 28, 159, 0, 9, 25, 7, 21, 11, 4, 84, 177]
abbrev dktX3_slides_3 : List UInt8 := dkwX3_slides_3 ++ dktX3_slides_4
def dkwX3_slides_2 : List UInt8 := [162, 0, 72, 16, 6, 21, 9, 104, 21, 8, 96, 54, 11, 42, 180, 0, 9, 21, 11, 46, 2, 159, 0, 26]
abbrev dktX3_slides_2 : List UInt8 := dkwX3_slides_2 ++ dktX3_slides_3
def dkwX3_slides_1 : List UInt8 := [162, 0, 96, 21, 8, 155, 0, 91, 21, 8, 16, 6, 162, 0, 84, 21, 9, 155, 0, 79, 21, 9, 16, 6]
abbrev dktX3_slides_1 : List UInt8 := dkwX3_slides_1 ++ dktX3_slides_2
def dkwX3_slides_0 : List UInt8 := [27, 16, 6, 112, 29, 96, 54, 8, 27, 16, 6, 108, 21, 4, 96, 54, 9, 3, 54, 10, 21, 10, 21, 5]
abbrev dktX3_slides_0 : List UInt8 := dkwX3_slides_0 ++ dktX3_slides_1
theorem dksX3_slides_0 : cX3_slides.data.toList.drop 0 = dktX3_slides_0 := by decide +kernel
theorem dksX3_slides_1 : cX3_slides.data.toList.drop 24 = dktX3_slides_1 := dk_seg dksX3_slides_0 24 rfl rfl
theorem dksX3_slides_2 : cX3_slides.data.toList.drop 48 = dktX3_slides_2 := dk_seg dksX3_slides_1 24 rfl rfl
theorem dksX3_slides_3 : cX3_slides.data.toList.drop 72 = dktX3_slides_3 := dk_seg dksX3_slides_2 24 rfl rfl
theorem dksX3_slides_4 : cX3_slides.data.toList.drop 95 = dktX3_slides_4 := dk_seg dksX3_slides_3 23 rfl rfl
theorem dksX3_slides_5 : cX3_slides.data.toList.drop 117 = dktX3_slides_5 := dk_seg dksX3_slides_4 22 rfl rfl
theorem dX3_slides_0 : decode cX3_slides 0 = .ok (.iload_n 1, 1) := dk_27 (dk_at dksX3_slides_0 0 rfl rfl)
theorem dX3_slides_1 : decode cX3_slides 1 = .ok (.bipush 6, 2) := dk_16 6 (dk_at dksX3_slides_0 1 rfl rfl)
theorem dX3_slides_3 : decode cX3_slides 3 = .ok (.irem, 1) := dk_112 (dk_at dksX3_slides_0 3 rfl rfl)
theorem dX3_slides_4 : decode cX3_slides 4 = .ok (.iload_n 3, 1) := dk_29 (dk_at dksX3_slides_0 4 rfl rfl)
theorem dX3_slides_5 : decode cX3_slides 5 = .ok (.iadd, 1) := dk_96 (dk_at dksX3_slides_0 5 rfl rfl)
theorem dX3_slides_6 : decode cX3_slides 6 = .ok (.istore 8, 2) := dk_54 8 (dk_at dksX3_slides_0 6 rfl rfl)
theorem dX3_slides_8 : decode cX3_slides 8 = .ok (.iload_n 1, 1) := dk_27 (dk_at dksX3_slides_0 8 rfl rfl)
theorem dX3_slides_9 : decode cX3_slides 9 = .ok (.bipush 6, 2) := dk_16 6 (dk_at dksX3_slides_0 9 rfl rfl)
theorem dX3_slides_11 : decode cX3_slides 11 = .ok (.idiv, 1) := dk_108 (dk_at dksX3_slides_0 11 rfl rfl)
theorem dX3_slides_12 : decode cX3_slides 12 = .ok (.iload 4, 2) := dk_21 4 (dk_at dksX3_slides_0 12 rfl rfl)
theorem dX3_slides_14 : decode cX3_slides 14 = .ok (.iadd, 1) := dk_96 (dk_at dksX3_slides_0 14 rfl rfl)
theorem dX3_slides_15 : decode cX3_slides 15 = .ok (.istore 9, 2) := dk_54 9 (dk_at dksX3_slides_0 15 rfl rfl)
theorem dX3_slides_17 : decode cX3_slides 17 = .ok (.iconst 0, 1) := dk_3 (dk_at dksX3_slides_0 17 rfl rfl)
theorem dX3_slides_18 : decode cX3_slides 18 = .ok (.istore 10, 2) := dk_54 10 (dk_at dksX3_slides_0 18 rfl rfl)
theorem dX3_slides_20 : decode cX3_slides 20 = .ok (.iload 10, 2) := dk_21 10 (dk_at dksX3_slides_0 20 rfl rfl)
theorem dX3_slides_22 : decode cX3_slides 22 = .ok (.iload 5, 2) := dk_21 5 (dk_at dksX3_slides_0 22 rfl rfl)
theorem dX3_slides_24 : decode cX3_slides 24 = .ok (.if_icmp .ge 96, 3) := dk_162 0 96 (dk_at dksX3_slides_1 0 rfl rfl)
theorem dX3_slides_27 : decode cX3_slides 27 = .ok (.iload 8, 2) := dk_21 8 (dk_at dksX3_slides_1 3 rfl rfl)
theorem dX3_slides_29 : decode cX3_slides 29 = .ok (.ifCond .lt 91, 3) := dk_155 0 91 (dk_at dksX3_slides_1 5 rfl rfl)
theorem dX3_slides_32 : decode cX3_slides 32 = .ok (.iload 8, 2) := dk_21 8 (dk_at dksX3_slides_1 8 rfl rfl)
theorem dX3_slides_34 : decode cX3_slides 34 = .ok (.bipush 6, 2) := dk_16 6 (dk_at dksX3_slides_1 10 rfl rfl)
theorem dX3_slides_36 : decode cX3_slides 36 = .ok (.if_icmp .ge 84, 3) := dk_162 0 84 (dk_at dksX3_slides_1 12 rfl rfl)
theorem dX3_slides_39 : decode cX3_slides 39 = .ok (.iload 9, 2) := dk_21 9 (dk_at dksX3_slides_1 15 rfl rfl)
theorem dX3_slides_41 : decode cX3_slides 41 = .ok (.ifCond .lt 79, 3) := dk_155 0 79 (dk_at dksX3_slides_1 17 rfl rfl)
theorem dX3_slides_44 : decode cX3_slides 44 = .ok (.iload 9, 2) := dk_21 9 (dk_at dksX3_slides_1 20 rfl rfl)
theorem dX3_slides_46 : decode cX3_slides 46 = .ok (.bipush 6, 2) := dk_16 6 (dk_at dksX3_slides_1 22 rfl rfl)
theorem dX3_slides_48 : decode cX3_slides 48 = .ok (.if_icmp .ge 72, 3) := dk_162 0 72 (dk_at dksX3_slides_2 0 rfl rfl)
theorem dX3_slides_51 : decode cX3_slides 51 = .ok (.bipush 6, 2) := dk_16 6 (dk_at dksX3_slides_2 3 rfl rfl)
theorem dX3_slides_53 : decode cX3_slides 53 = .ok (.iload 9, 2) := dk_21 9 (dk_at dksX3_slides_2 5 rfl rfl)
theorem dX3_slides_55 : decode cX3_slides 55 = .ok (.imul, 1) := dk_104 (dk_at dksX3_slides_2 7 rfl rfl)
theorem dX3_slides_56 : decode cX3_slides 56 = .ok (.iload 8, 2) := dk_21 8 (dk_at dksX3_slides_2 8 rfl rfl)
theorem dX3_slides_58 : decode cX3_slides 58 = .ok (.iadd, 1) := dk_96 (dk_at dksX3_slides_2 10 rfl rfl)
theorem dX3_slides_59 : decode cX3_slides 59 = .ok (.istore 11, 2) := dk_54 11 (dk_at dksX3_slides_2 11 rfl rfl)
theorem dX3_slides_61 : decode cX3_slides 61 = .ok (.aload_n 0, 1) := dk_42 (dk_at dksX3_slides_2 13 rfl rfl)
theorem dX3_slides_62 : decode cX3_slides 62 = .ok (.getfield 9, 3) := dk_180 0 9 (dk_at dksX3_slides_2 14 rfl rfl)
theorem dX3_slides_65 : decode cX3_slides 65 = .ok (.iload 11, 2) := dk_21 11 (dk_at dksX3_slides_2 17 rfl rfl)
theorem dX3_slides_67 : decode cX3_slides 67 = .ok (.iaload, 1) := dk_46 (dk_at dksX3_slides_2 19 rfl rfl)
theorem dX3_slides_68 : decode cX3_slides 68 = .ok (.iconst (-1), 1) := dk_2 (dk_at dksX3_slides_2 20 rfl rfl)
theorem dX3_slides_69 : decode cX3_slides 69 = .ok (.if_icmp .eq 26, 3) := dk_159 0 26 (dk_at dksX3_slides_2 21 rfl rfl)
theorem dX3_slides_72 : decode cX3_slides 72 = .ok (.iload 6, 2) := dk_21 6 (dk_at dksX3_slides_3 0 rfl rfl)
theorem dX3_slides_74 : decode cX3_slides 74 = .ok (.ifCond .eq 20, 3) := dk_153 0 20 (dk_at dksX3_slides_3 2 rfl rfl)
theorem dX3_slides_77 : decode cX3_slides 77 = .ok (.aload_n 0, 1) := dk_42 (dk_at dksX3_slides_3 5 rfl rfl)
theorem dX3_slides_78 : decode cX3_slides 78 = .ok (.getfield 15, 3) := dk_180 0 15 (dk_at dksX3_slides_3 6 rfl rfl)
theorem dX3_slides_81 : decode cX3_slides 81 = .ok (.iload 11, 2) := dk_21 11 (dk_at dksX3_slides_3 9 rfl rfl)
theorem dX3_slides_83 : decode cX3_slides 83 = .ok (.iaload, 1) := dk_46 (dk_at dksX3_slides_3 11 rfl rfl)
theorem dX3_slides_84 : decode cX3_slides 84 = .ok (.iload_n 2, 1) := dk_28 (dk_at dksX3_slides_3 12 rfl rfl)
theorem dX3_slides_85 : decode cX3_slides 85 = .ok (.if_icmp .eq 9, 3) := dk_159 0 9 (dk_at dksX3_slides_3 13 rfl rfl)
theorem dX3_slides_88 : decode cX3_slides 88 = .ok (.aload 7, 2) := dk_25 7 (dk_at dksX3_slides_3 16 rfl rfl)
theorem dX3_slides_90 : decode cX3_slides 90 = .ok (.iload 11, 2) := dk_21 11 (dk_at dksX3_slides_3 18 rfl rfl)
theorem dX3_slides_92 : decode cX3_slides 92 = .ok (.iconst 1, 1) := dk_4 (dk_at dksX3_slides_3 20 rfl rfl)
theorem dX3_slides_93 : decode cX3_slides 93 = .ok (.bastore, 1) := dk_84 (dk_at dksX3_slides_3 21 rfl rfl)
theorem dX3_slides_94 : decode cX3_slides 94 = .ok (.return_, 1) := dk_177 (dk_at dksX3_slides_3 22 rfl rfl)
theorem dX3_slides_95 : decode cX3_slides 95 = .ok (.aload 7, 2) := dk_25 7 (dk_at dksX3_slides_4 0 rfl rfl)
theorem dX3_slides_97 : decode cX3_slides 97 = .ok (.iload 11, 2) := dk_21 11 (dk_at dksX3_slides_4 2 rfl rfl)
theorem dX3_slides_99 : decode cX3_slides 99 = .ok (.iconst 1, 1) := dk_4 (dk_at dksX3_slides_4 4 rfl rfl)
theorem dX3_slides_100 : decode cX3_slides 100 = .ok (.bastore, 1) := dk_84 (dk_at dksX3_slides_4 5 rfl rfl)
theorem dX3_slides_101 : decode cX3_slides 101 = .ok (.iload 8, 2) := dk_21 8 (dk_at dksX3_slides_4 6 rfl rfl)
theorem dX3_slides_103 : decode cX3_slides 103 = .ok (.iload_n 3, 1) := dk_29 (dk_at dksX3_slides_4 8 rfl rfl)
theorem dX3_slides_104 : decode cX3_slides 104 = .ok (.iadd, 1) := dk_96 (dk_at dksX3_slides_4 9 rfl rfl)
theorem dX3_slides_105 : decode cX3_slides 105 = .ok (.istore 8, 2) := dk_54 8 (dk_at dksX3_slides_4 10 rfl rfl)
theorem dX3_slides_107 : decode cX3_slides 107 = .ok (.iload 9, 2) := dk_21 9 (dk_at dksX3_slides_4 12 rfl rfl)
theorem dX3_slides_109 : decode cX3_slides 109 = .ok (.iload 4, 2) := dk_21 4 (dk_at dksX3_slides_4 14 rfl rfl)
theorem dX3_slides_111 : decode cX3_slides 111 = .ok (.iadd, 1) := dk_96 (dk_at dksX3_slides_4 16 rfl rfl)
theorem dX3_slides_112 : decode cX3_slides 112 = .ok (.istore 9, 2) := dk_54 9 (dk_at dksX3_slides_4 17 rfl rfl)
theorem dX3_slides_114 : decode cX3_slides 114 = .ok (.iinc 10 1, 3) := dk_132 10 1 (dk_at dksX3_slides_4 19 rfl rfl)
theorem dX3_slides_117 : decode cX3_slides 117 = .ok (.goto (-97), 3) := dk_167 255 159 (dk_at dksX3_slides_5 0 rfl rfl)
theorem dX3_slides_120 : decode cX3_slides 120 = .ok (.return_, 1) := dk_177 (dk_at dksX3_slides_5 3 rfl rfl)
theorem dX4_init_0 : decode cX4_init 0 = .ok (.aload_n 0, 1) := by decide +kernel
theorem dX4_init_1 : decode cX4_init 1 = .ok (.invokespecial 3, 3) := by decide +kernel
theorem dX4_init_4 : decode cX4_init 4 = .ok (.return_, 1) := by decide +kernel
def dkwX4_marks_3 : List UInt8 := [159, 0, 9, 25, 4, 21, 5, 4, 84, 132, 5, 1, 167, 255, 179, 177]
abbrev dktX4_marks_3 : List UInt8 := dkwX4_marks_3 ++ []
def dkwX4_marks_2 : List UInt8 := [160, 0, 31, 43, 180, 0, 15, 21, 5, 46, 2, 159, 0, 14, 43, 180, 0, 21, 21, 5, 46, 29]
abbrev dktX4_marks_2 : List UInt8 := dkwX4_marks_2 ++ dktX4_marks_3
def dkwX4_marks_1 : List UInt8 := [54, 6, 21, 5, 16, 6, 108, 28, 16, 6, 108, 100, 184, 0, 9, 54, 7, 21, 6, 21, 7, 104, 5]
abbrev dktX4_marks_1 : List UInt8 := dkwX4_marks_1 ++ dktX4_marks_2
def dkwX4_marks_0 : List UInt8 := [3, 54, 5, 21, 5, 16, 36, 162, 0, 76, 21, 5, 16, 6, 112, 28, 16, 6, 112, 100, 184, 0, 9]
abbrev dktX4_marks_0 : List UInt8 := dkwX4_marks_0 ++ dktX4_marks_1
theorem dksX4_marks_0 : cX4_marks.data.toList.drop 0 = dktX4_marks_0 := by decide +kernel
theorem dksX4_marks_1 : cX4_marks.data.toList.drop 23 = dktX4_marks_1 := dk_seg dksX4_marks_0 23 rfl rfl
theorem dksX4_marks_2 : cX4_marks.data.toList.drop 46 = dktX4_marks_2 := dk_seg dksX4_marks_1 23 rfl rfl
theorem dksX4_marks_3 : cX4_marks.data.toList.drop 68 = dktX4_marks_3 := dk_seg dksX4_marks_2 22 rfl rfl
theorem dX4_marks_0 : decode cX4_marks 0 = .ok (.iconst 0, 1) := dk_3 (dk_at dksX4_marks_0 0 rfl rfl)
theorem dX4_marks_1 : decode cX4_marks 1 = .ok (.istore 5, 2) := dk_54 5 (dk_at dksX4_marks_0 1 rfl rfl)
theorem dX4_marks_3 : decode cX4_marks 3 = .ok (.iload 5, 2) := dk_21 5 (dk_at dksX4_marks_0 3 rfl rfl)
theorem dX4_marks_5 : decode cX4_marks 5 = .ok (.bipush 36, 2) := dk_16 36 (dk_at dksX4_marks_0 5 rfl rfl)
theorem dX4_marks_7 : decode cX4_marks 7 = .ok (.if_icmp .ge 76, 3) := dk_162 0 76 (dk_at dksX4_marks_0 7 rfl rfl)
theorem dX4_marks_10 : decode cX4_marks 10 = .ok (.iload 5, 2) := dk_21 5 (dk_at dksX4_marks_0 10 rfl rfl)
theorem dX4_marks_12 : decode cX4_marks 12 = .ok (.bipush 6, 2) := dk_16 6 (dk_at dksX4_marks_0 12 rfl rfl)
theorem dX4_marks_14 : decode cX4_marks 14 = .ok (.irem, 1) := dk_112 (dk_at dksX4_marks_0 14 rfl rfl)
theorem dX4_marks_15 : decode cX4_marks 15 = .ok (.iload_n 2, 1) := dk_28 (dk_at dksX4_marks_0 15 rfl rfl)
theorem dX4_marks_16 : decode cX4_marks 16 = .ok (.bipush 6, 2) := dk_16 6 (dk_at dksX4_marks_0 16 rfl rfl)
theorem dX4_marks_18 : decode cX4_marks 18 = .ok (.irem, 1) := dk_112 (dk_at dksX4_marks_0 18 rfl rfl)
theorem dX4_marks_19 : decode cX4_marks 19 = .ok (.isub, 1) := dk_100 (dk_at dksX4_marks_0 19 rfl rfl)
theorem dX4_marks_20 : decode cX4_marks 20 = .ok (.invokestatic 9, 3) := dk_184 0 9 (dk_at dksX4_marks_0 20 rfl rfl)
theorem dX4_marks_23 : decode cX4_marks 23 = .ok (.istore 6, 2) := dk_54 6 (dk_at dksX4_marks_1 0 rfl rfl)
theorem dX4_marks_25 : decode cX4_marks 25 = .ok (.iload 5, 2) := dk_21 5 (dk_at dksX4_marks_1 2 rfl rfl)
theorem dX4_marks_27 : decode cX4_marks 27 = .ok (.bipush 6, 2) := dk_16 6 (dk_at dksX4_marks_1 4 rfl rfl)
theorem dX4_marks_29 : decode cX4_marks 29 = .ok (.idiv, 1) := dk_108 (dk_at dksX4_marks_1 6 rfl rfl)
theorem dX4_marks_30 : decode cX4_marks 30 = .ok (.iload_n 2, 1) := dk_28 (dk_at dksX4_marks_1 7 rfl rfl)
theorem dX4_marks_31 : decode cX4_marks 31 = .ok (.bipush 6, 2) := dk_16 6 (dk_at dksX4_marks_1 8 rfl rfl)
theorem dX4_marks_33 : decode cX4_marks 33 = .ok (.idiv, 1) := dk_108 (dk_at dksX4_marks_1 10 rfl rfl)
theorem dX4_marks_34 : decode cX4_marks 34 = .ok (.isub, 1) := dk_100 (dk_at dksX4_marks_1 11 rfl rfl)
theorem dX4_marks_35 : decode cX4_marks 35 = .ok (.invokestatic 9, 3) := dk_184 0 9 (dk_at dksX4_marks_1 12 rfl rfl)
theorem dX4_marks_38 : decode cX4_marks 38 = .ok (.istore 7, 2) := dk_54 7 (dk_at dksX4_marks_1 15 rfl rfl)
theorem dX4_marks_40 : decode cX4_marks 40 = .ok (.iload 6, 2) := dk_21 6 (dk_at dksX4_marks_1 17 rfl rfl)
theorem dX4_marks_42 : decode cX4_marks 42 = .ok (.iload 7, 2) := dk_21 7 (dk_at dksX4_marks_1 19 rfl rfl)
theorem dX4_marks_44 : decode cX4_marks 44 = .ok (.imul, 1) := dk_104 (dk_at dksX4_marks_1 21 rfl rfl)
theorem dX4_marks_45 : decode cX4_marks 45 = .ok (.iconst 2, 1) := dk_5 (dk_at dksX4_marks_1 22 rfl rfl)
theorem dX4_marks_46 : decode cX4_marks 46 = .ok (.if_icmp .ne 31, 3) := dk_160 0 31 (dk_at dksX4_marks_2 0 rfl rfl)
theorem dX4_marks_49 : decode cX4_marks 49 = .ok (.aload_n 1, 1) := dk_43 (dk_at dksX4_marks_2 3 rfl rfl)
theorem dX4_marks_50 : decode cX4_marks 50 = .ok (.getfield 15, 3) := dk_180 0 15 (dk_at dksX4_marks_2 4 rfl rfl)
theorem dX4_marks_53 : decode cX4_marks 53 = .ok (.iload 5, 2) := dk_21 5 (dk_at dksX4_marks_2 7 rfl rfl)
theorem dX4_marks_55 : decode cX4_marks 55 = .ok (.iaload, 1) := dk_46 (dk_at dksX4_marks_2 9 rfl rfl)
theorem dX4_marks_56 : decode cX4_marks 56 = .ok (.iconst (-1), 1) := dk_2 (dk_at dksX4_marks_2 10 rfl rfl)
theorem dX4_marks_57 : decode cX4_marks 57 = .ok (.if_icmp .eq 14, 3) := dk_159 0 14 (dk_at dksX4_marks_2 11 rfl rfl)
theorem dX4_marks_60 : decode cX4_marks 60 = .ok (.aload_n 1, 1) := dk_43 (dk_at dksX4_marks_2 14 rfl rfl)
theorem dX4_marks_61 : decode cX4_marks 61 = .ok (.getfield 21, 3) := dk_180 0 21 (dk_at dksX4_marks_2 15 rfl rfl)
theorem dX4_marks_64 : decode cX4_marks 64 = .ok (.iload 5, 2) := dk_21 5 (dk_at dksX4_marks_2 18 rfl rfl)
theorem dX4_marks_66 : decode cX4_marks 66 = .ok (.iaload, 1) := dk_46 (dk_at dksX4_marks_2 20 rfl rfl)
theorem dX4_marks_67 : decode cX4_marks 67 = .ok (.iload_n 3, 1) := dk_29 (dk_at dksX4_marks_2 21 rfl rfl)
theorem dX4_marks_68 : decode cX4_marks 68 = .ok (.if_icmp .eq 9, 3) := dk_159 0 9 (dk_at dksX4_marks_3 0 rfl rfl)
theorem dX4_marks_71 : decode cX4_marks 71 = .ok (.aload 4, 2) := dk_25 4 (dk_at dksX4_marks_3 3 rfl rfl)
theorem dX4_marks_73 : decode cX4_marks 73 = .ok (.iload 5, 2) := dk_21 5 (dk_at dksX4_marks_3 5 rfl rfl)
theorem dX4_marks_75 : decode cX4_marks 75 = .ok (.iconst 1, 1) := dk_4 (dk_at dksX4_marks_3 7 rfl rfl)
theorem dX4_marks_76 : decode cX4_marks 76 = .ok (.bastore, 1) := dk_84 (dk_at dksX4_marks_3 8 rfl rfl)
theorem dX4_marks_77 : decode cX4_marks 77 = .ok (.iinc 5 1, 3) := dk_132 5 1 (dk_at dksX4_marks_3 9 rfl rfl)
theorem dX4_marks_80 : decode cX4_marks 80 = .ok (.goto (-77), 3) := dk_167 255 179 (dk_at dksX4_marks_3 12 rfl rfl)
theorem dX4_marks_83 : decode cX4_marks 83 = .ok (.return_, 1) := dk_177 (dk_at dksX4_marks_3 15 rfl rfl)
theorem dX5_init_0 : decode cX5_init 0 = .ok (.aload_n 0, 1) := by decide +kernel
theorem dX5_init_1 : decode cX5_init 1 = .ok (.invokespecial 3, 3) := by decide +kernel
theorem dX5_init_4 : decode cX5_init 4 = .ok (.return_, 1) := by decide +kernel
def dkwX5_marks_4 : List UInt8 := [25, 4, 21, 7, 4, 84, 132, 6, 2, 167, 255, 177, 177]
abbrev dktX5_marks_4 : List UInt8 := dkwX5_marks_4 ++ []
def dkwX5_marks_3 : List UInt8 := [54, 7, 43, 180, 0, 9, 21, 7, 46, 2, 159, 0, 20, 43, 180, 0, 15, 21, 7, 46, 29, 159, 0, 9]
abbrev dktX5_marks_3 : List UInt8 := dkwX5_marks_3 ++ dktX5_marks_4
def dkwX5_marks_2 : List UInt8 := [21, 5, 155, 0, 51, 21, 5, 16, 6, 161, 0, 6, 167, 0, 41, 16, 6, 21, 5, 104, 21, 6, 96]
abbrev dktX5_marks_2 : List UInt8 := dkwX5_marks_2 ++ dktX5_marks_3
def dkwX5_marks_1 : List UInt8 := [21, 6, 28, 16, 6, 112, 4, 96, 163, 0, 74, 21, 6, 155, 0, 63, 21, 6, 16, 6, 162, 0, 56]
abbrev dktX5_marks_1 : List UInt8 := dkwX5_marks_1 ++ dktX5_marks_2
def dkwX5_marks_0 : List UInt8 := [28, 16, 6, 108, 29, 154, 0, 7, 4, 167, 0, 4, 2, 96, 54, 5, 28, 16, 6, 112, 4, 100, 54, 6]
abbrev dktX5_marks_0 : List UInt8 := dkwX5_marks_0 ++ dktX5_marks_1
theorem dksX5_marks_0 : cX5_marks.data.toList.drop 0 = dktX5_marks_0 := by decide +kernel
theorem dksX5_marks_1 : cX5_marks.data.toList.drop 24 = dktX5_marks_1 := dk_seg dksX5_marks_0 24 rfl rfl
theorem dksX5_marks_2 : cX5_marks.data.toList.drop 47 = dktX5_marks_2 := dk_seg dksX5_marks_1 23 rfl rfl
theorem dksX5_marks_3 : cX5_marks.data.toList.drop 70 = dktX5_marks_3 := dk_seg dksX5_marks_2 23 rfl rfl
theorem dksX5_marks_4 : cX5_marks.data.toList.drop 94 = dktX5_marks_4 := dk_seg dksX5_marks_3 24 rfl rfl
theorem dX5_marks_0 : decode cX5_marks 0 = .ok (.iload_n 2, 1) := dk_28 (dk_at dksX5_marks_0 0 rfl rfl)
theorem dX5_marks_1 : decode cX5_marks 1 = .ok (.bipush 6, 2) := dk_16 6 (dk_at dksX5_marks_0 1 rfl rfl)
theorem dX5_marks_3 : decode cX5_marks 3 = .ok (.idiv, 1) := dk_108 (dk_at dksX5_marks_0 3 rfl rfl)
theorem dX5_marks_4 : decode cX5_marks 4 = .ok (.iload_n 3, 1) := dk_29 (dk_at dksX5_marks_0 4 rfl rfl)
theorem dX5_marks_5 : decode cX5_marks 5 = .ok (.ifCond .ne 7, 3) := dk_154 0 7 (dk_at dksX5_marks_0 5 rfl rfl)
theorem dX5_marks_8 : decode cX5_marks 8 = .ok (.iconst 1, 1) := dk_4 (dk_at dksX5_marks_0 8 rfl rfl)
theorem dX5_marks_9 : decode cX5_marks 9 = .ok (.goto 4, 3) := dk_167 0 4 (dk_at dksX5_marks_0 9 rfl rfl)
theorem dX5_marks_12 : decode cX5_marks 12 = .ok (.iconst (-1), 1) := dk_2 (dk_at dksX5_marks_0 12 rfl rfl)
theorem dX5_marks_13 : decode cX5_marks 13 = .ok (.iadd, 1) := dk_96 (dk_at dksX5_marks_0 13 rfl rfl)
theorem dX5_marks_14 : decode cX5_marks 14 = .ok (.istore 5, 2) := dk_54 5 (dk_at dksX5_marks_0 14 rfl rfl)
theorem dX5_marks_16 : decode cX5_marks 16 = .ok (.iload_n 2, 1) := dk_28 (dk_at dksX5_marks_0 16 rfl rfl)
theorem dX5_marks_17 : decode cX5_marks 17 = .ok (.bipush 6, 2) := dk_16 6 (dk_at dksX5_marks_0 17 rfl rfl)
theorem dX5_marks_19 : decode cX5_marks 19 = .ok (.irem, 1) := dk_112 (dk_at dksX5_marks_0 19 rfl rfl)
theorem dX5_marks_20 : decode cX5_marks 20 = .ok (.iconst 1, 1) := dk_4 (dk_at dksX5_marks_0 20 rfl rfl)
theorem dX5_marks_21 : decode cX5_marks 21 = .ok (.isub, 1) := dk_100 (dk_at dksX5_marks_0 21 rfl rfl)
theorem dX5_marks_22 : decode cX5_marks 22 = .ok (.istore 6, 2) := dk_54 6 (dk_at dksX5_marks_0 22 rfl rfl)
theorem dX5_marks_24 : decode cX5_marks 24 = .ok (.iload 6, 2) := dk_21 6 (dk_at dksX5_marks_1 0 rfl rfl)
theorem dX5_marks_26 : decode cX5_marks 26 = .ok (.iload_n 2, 1) := dk_28 (dk_at dksX5_marks_1 2 rfl rfl)
theorem dX5_marks_27 : decode cX5_marks 27 = .ok (.bipush 6, 2) := dk_16 6 (dk_at dksX5_marks_1 3 rfl rfl)
theorem dX5_marks_29 : decode cX5_marks 29 = .ok (.irem, 1) := dk_112 (dk_at dksX5_marks_1 5 rfl rfl)
theorem dX5_marks_30 : decode cX5_marks 30 = .ok (.iconst 1, 1) := dk_4 (dk_at dksX5_marks_1 6 rfl rfl)
theorem dX5_marks_31 : decode cX5_marks 31 = .ok (.iadd, 1) := dk_96 (dk_at dksX5_marks_1 7 rfl rfl)
theorem dX5_marks_32 : decode cX5_marks 32 = .ok (.if_icmp .gt 74, 3) := dk_163 0 74 (dk_at dksX5_marks_1 8 rfl rfl)
theorem dX5_marks_35 : decode cX5_marks 35 = .ok (.iload 6, 2) := dk_21 6 (dk_at dksX5_marks_1 11 rfl rfl)
theorem dX5_marks_37 : decode cX5_marks 37 = .ok (.ifCond .lt 63, 3) := dk_155 0 63 (dk_at dksX5_marks_1 13 rfl rfl)
theorem dX5_marks_40 : decode cX5_marks 40 = .ok (.iload 6, 2) := dk_21 6 (dk_at dksX5_marks_1 16 rfl rfl)
theorem dX5_marks_42 : decode cX5_marks 42 = .ok (.bipush 6, 2) := dk_16 6 (dk_at dksX5_marks_1 18 rfl rfl)
theorem dX5_marks_44 : decode cX5_marks 44 = .ok (.if_icmp .ge 56, 3) := dk_162 0 56 (dk_at dksX5_marks_1 20 rfl rfl)
theorem dX5_marks_47 : decode cX5_marks 47 = .ok (.iload 5, 2) := dk_21 5 (dk_at dksX5_marks_2 0 rfl rfl)
theorem dX5_marks_49 : decode cX5_marks 49 = .ok (.ifCond .lt 51, 3) := dk_155 0 51 (dk_at dksX5_marks_2 2 rfl rfl)
theorem dX5_marks_52 : decode cX5_marks 52 = .ok (.iload 5, 2) := dk_21 5 (dk_at dksX5_marks_2 5 rfl rfl)
theorem dX5_marks_54 : decode cX5_marks 54 = .ok (.bipush 6, 2) := dk_16 6 (dk_at dksX5_marks_2 7 rfl rfl)
theorem dX5_marks_56 : decode cX5_marks 56 = .ok (.if_icmp .lt 6, 3) := dk_161 0 6 (dk_at dksX5_marks_2 9 rfl rfl)
theorem dX5_marks_59 : decode cX5_marks 59 = .ok (.goto 41, 3) := dk_167 0 41 (dk_at dksX5_marks_2 12 rfl rfl)
theorem dX5_marks_62 : decode cX5_marks 62 = .ok (.bipush 6, 2) := dk_16 6 (dk_at dksX5_marks_2 15 rfl rfl)
theorem dX5_marks_64 : decode cX5_marks 64 = .ok (.iload 5, 2) := dk_21 5 (dk_at dksX5_marks_2 17 rfl rfl)
theorem dX5_marks_66 : decode cX5_marks 66 = .ok (.imul, 1) := dk_104 (dk_at dksX5_marks_2 19 rfl rfl)
theorem dX5_marks_67 : decode cX5_marks 67 = .ok (.iload 6, 2) := dk_21 6 (dk_at dksX5_marks_2 20 rfl rfl)
theorem dX5_marks_69 : decode cX5_marks 69 = .ok (.iadd, 1) := dk_96 (dk_at dksX5_marks_2 22 rfl rfl)
theorem dX5_marks_70 : decode cX5_marks 70 = .ok (.istore 7, 2) := dk_54 7 (dk_at dksX5_marks_3 0 rfl rfl)
theorem dX5_marks_72 : decode cX5_marks 72 = .ok (.aload_n 1, 1) := dk_43 (dk_at dksX5_marks_3 2 rfl rfl)
theorem dX5_marks_73 : decode cX5_marks 73 = .ok (.getfield 9, 3) := dk_180 0 9 (dk_at dksX5_marks_3 3 rfl rfl)
theorem dX5_marks_76 : decode cX5_marks 76 = .ok (.iload 7, 2) := dk_21 7 (dk_at dksX5_marks_3 6 rfl rfl)
theorem dX5_marks_78 : decode cX5_marks 78 = .ok (.iaload, 1) := dk_46 (dk_at dksX5_marks_3 8 rfl rfl)
theorem dX5_marks_79 : decode cX5_marks 79 = .ok (.iconst (-1), 1) := dk_2 (dk_at dksX5_marks_3 9 rfl rfl)
theorem dX5_marks_80 : decode cX5_marks 80 = .ok (.if_icmp .eq 20, 3) := dk_159 0 20 (dk_at dksX5_marks_3 10 rfl rfl)
theorem dX5_marks_83 : decode cX5_marks 83 = .ok (.aload_n 1, 1) := dk_43 (dk_at dksX5_marks_3 13 rfl rfl)
theorem dX5_marks_84 : decode cX5_marks 84 = .ok (.getfield 15, 3) := dk_180 0 15 (dk_at dksX5_marks_3 14 rfl rfl)
theorem dX5_marks_87 : decode cX5_marks 87 = .ok (.iload 7, 2) := dk_21 7 (dk_at dksX5_marks_3 17 rfl rfl)
theorem dX5_marks_89 : decode cX5_marks 89 = .ok (.iaload, 1) := dk_46 (dk_at dksX5_marks_3 19 rfl rfl)
theorem dX5_marks_90 : decode cX5_marks 90 = .ok (.iload_n 3, 1) := dk_29 (dk_at dksX5_marks_3 20 rfl rfl)
theorem dX5_marks_91 : decode cX5_marks 91 = .ok (.if_icmp .eq 9, 3) := dk_159 0 9 (dk_at dksX5_marks_3 21 rfl rfl)
theorem dX5_marks_94 : decode cX5_marks 94 = .ok (.aload 4, 2) := dk_25 4 (dk_at dksX5_marks_4 0 rfl rfl)
theorem dX5_marks_96 : decode cX5_marks 96 = .ok (.iload 7, 2) := dk_21 7 (dk_at dksX5_marks_4 2 rfl rfl)
theorem dX5_marks_98 : decode cX5_marks 98 = .ok (.iconst 1, 1) := dk_4 (dk_at dksX5_marks_4 4 rfl rfl)
theorem dX5_marks_99 : decode cX5_marks 99 = .ok (.bastore, 1) := dk_84 (dk_at dksX5_marks_4 5 rfl rfl)
theorem dX5_marks_100 : decode cX5_marks 100 = .ok (.iinc 6 2, 3) := dk_132 6 2 (dk_at dksX5_marks_4 6 rfl rfl)
theorem dX5_marks_103 : decode cX5_marks 103 = .ok (.goto (-79), 3) := dk_167 255 177 (dk_at dksX5_marks_4 9 rfl rfl)
theorem dX5_marks_106 : decode cX5_marks 106 = .ok (.return_, 1) := dk_177 (dk_at dksX5_marks_4 12 rfl rfl)
def dkwX7_init_3 : List UInt8 := [83, 132, 1, 1, 167, 255, 235, 177]
abbrev dktX7_init_3 : List UInt8 := dkwX7_init_3 ++ []
def dkwX7_init_2 : List UInt8 := [42, 2, 181, 0, 40, 3, 60, 27, 6, 162, 0, 22, 42, 180, 0, 26, 27, 187, 0, 24, 89, 183, 0, 44]
abbrev dktX7_init_2 : List UInt8 := dkwX7_init_2 ++ dktX7_init_3
def dkwX7_init_1 : List UInt8 := [6, 189, 0, 24, 181, 0, 26, 42, 16, 10, 189, 0, 30, 181, 0, 32, 42, 16, 8, 188, 10, 181, 0, 36]
abbrev dktX7_init_1 : List UInt8 := dkwX7_init_1 ++ dktX7_init_2
def dkwX7_init_0 : List UInt8 := [42, 183, 0, 3, 42, 8, 189, 0, 9, 181, 0, 11, 42, 187, 0, 17, 89, 183, 0, 19, 181, 0, 20, 42]
abbrev dktX7_init_0 : List UInt8 := dkwX7_init_0 ++ dktX7_init_1
theorem dksX7_init_0 : cX7_init.data.toList.drop 0 = dktX7_init_0 := by decide +kernel
theorem dksX7_init_1 : cX7_init.data.toList.drop 24 = dktX7_init_1 := dk_seg dksX7_init_0 24 rfl rfl
theorem dksX7_init_2 : cX7_init.data.toList.drop 48 = dktX7_init_2 := dk_seg dksX7_init_1 24 rfl rfl
theorem dksX7_init_3 : cX7_init.data.toList.drop 72 = dktX7_init_3 := dk_seg dksX7_init_2 24 rfl rfl
theorem dX7_init_0 : decode cX7_init 0 = .ok (.aload_n 0, 1) := dk_42 (dk_at dksX7_init_0 0 rfl rfl)
theorem dX7_init_1 : decode cX7_init 1 = .ok (.invokespecial 3, 3) := dk_183 0 3 (dk_at dksX7_init_0 1 rfl rfl)
theorem dX7_init_4 : decode cX7_init 4 = .ok (.aload_n 0, 1) := dk_42 (dk_at dksX7_init_0 4 rfl rfl)
theorem dX7_init_5 : decode cX7_init 5 = .ok (.iconst 5, 1) := dk_8 (dk_at dksX7_init_0 5 rfl rfl)
theorem dX7_init_6 : decode cX7_init 6 = .ok (.anewarray 9, 3) := dk_189 0 9 (dk_at dksX7_init_0 6 rfl rfl)
theorem dX7_init_9 : decode cX7_init 9 = .ok (.putfield 11, 3) := dk_181 0 11 (dk_at dksX7_init_0 9 rfl rfl)
theorem dX7_init_12 : decode cX7_init 12 = .ok (.aload_n 0, 1) := dk_42 (dk_at dksX7_init_0 12 rfl rfl)
theorem dX7_init_13 : decode cX7_init 13 = .ok (.new 17, 3) := dk_187 0 17 (dk_at dksX7_init_0 13 rfl rfl)
theorem dX7_init_16 : decode cX7_init 16 = .ok (.dup, 1) := dk_89 (dk_at dksX7_init_0 16 rfl rfl)
theorem dX7_init_17 : decode cX7_init 17 = .ok (.invokespecial 19, 3) := dk_183 0 19 (dk_at dksX7_init_0 17 rfl rfl)
theorem dX7_init_20 : decode cX7_init 20 = .ok (.putfield 20, 3) := dk_181 0 20 (dk_at dksX7_init_0 20 rfl rfl)
theorem dX7_init_23 : decode cX7_init 23 = .ok (.aload_n 0, 1) := dk_42 (dk_at dksX7_init_0 23 rfl rfl)
theorem dX7_init_24 : decode cX7_init 24 = .ok (.iconst 3, 1) := dk_6 (dk_at dksX7_init_1 0 rfl rfl)
theorem dX7_init_25 : decode cX7_init 25 = .ok (.anewarray 24, 3) := dk_189 0 24 (dk_at dksX7_init_1 1 rfl rfl)
theorem dX7_init_28 : decode cX7_init 28 = .ok (.putfield 26, 3) := dk_181 0 26 (dk_at dksX7_init_1 4 rfl rfl)
theorem dX7_init_31 : decode cX7_init 31 = .ok (.aload_n 0, 1) := dk_42 (dk_at dksX7_init_1 7 rfl rfl)
theorem dX7_init_32 : decode cX7_init 32 = .ok (.bipush 10, 2) := dk_16 10 (dk_at dksX7_init_1 8 rfl rfl)
theorem dX7_init_34 : decode cX7_init 34 = .ok (.anewarray 30, 3) := dk_189 0 30 (dk_at dksX7_init_1 10 rfl rfl)
theorem dX7_init_37 : decode cX7_init 37 = .ok (.putfield 32, 3) := dk_181 0 32 (dk_at dksX7_init_1 13 rfl rfl)
theorem dX7_init_40 : decode cX7_init 40 = .ok (.aload_n 0, 1) := dk_42 (dk_at dksX7_init_1 16 rfl rfl)
theorem dX7_init_41 : decode cX7_init 41 = .ok (.bipush 8, 2) := dk_16 8 (dk_at dksX7_init_1 17 rfl rfl)
theorem dX7_init_43 : decode cX7_init 43 = .ok (.newarray .int, 2) := dk_188_10 (dk_at dksX7_init_1 19 rfl rfl)
theorem dX7_init_45 : decode cX7_init 45 = .ok (.putfield 36, 3) := dk_181 0 36 (dk_at dksX7_init_1 21 rfl rfl)
theorem dX7_init_48 : decode cX7_init 48 = .ok (.aload_n 0, 1) := dk_42 (dk_at dksX7_init_2 0 rfl rfl)
theorem dX7_init_49 : decode cX7_init 49 = .ok (.iconst (-1), 1) := dk_2 (dk_at dksX7_init_2 1 rfl rfl)
theorem dX7_init_50 : decode cX7_init 50 = .ok (.putfield 40, 3) := dk_181 0 40 (dk_at dksX7_init_2 2 rfl rfl)
theorem dX7_init_53 : decode cX7_init 53 = .ok (.iconst 0, 1) := dk_3 (dk_at dksX7_init_2 5 rfl rfl)
theorem dX7_init_54 : decode cX7_init 54 = .ok (.istore_n 1, 1) := dk_60 (dk_at dksX7_init_2 6 rfl rfl)
theorem dX7_init_55 : decode cX7_init 55 = .ok (.iload_n 1, 1) := dk_27 (dk_at dksX7_init_2 7 rfl rfl)
theorem dX7_init_56 : decode cX7_init 56 = .ok (.iconst 3, 1) := dk_6 (dk_at dksX7_init_2 8 rfl rfl)
theorem dX7_init_57 : decode cX7_init 57 = .ok (.if_icmp .ge 22, 3) := dk_162 0 22 (dk_at dksX7_init_2 9 rfl rfl)
theorem dX7_init_60 : decode cX7_init 60 = .ok (.aload_n 0, 1) := dk_42 (dk_at dksX7_init_2 12 rfl rfl)
theorem dX7_init_61 : decode cX7_init 61 = .ok (.getfield 26, 3) := dk_180 0 26 (dk_at dksX7_init_2 13 rfl rfl)
theorem dX7_init_64 : decode cX7_init 64 = .ok (.iload_n 1, 1) := dk_27 (dk_at dksX7_init_2 16 rfl rfl)
theorem dX7_init_65 : decode cX7_init 65 = .ok (.new 24, 3) := dk_187 0 24 (dk_at dksX7_init_2 17 rfl rfl)
theorem dX7_init_68 : decode cX7_init 68 = .ok (.dup, 1) := dk_89 (dk_at dksX7_init_2 20 rfl rfl)
theorem dX7_init_69 : decode cX7_init 69 = .ok (.invokespecial 44, 3) := dk_183 0 44 (dk_at dksX7_init_2 21 rfl rfl)
theorem dX7_init_72 : decode cX7_init 72 = .ok (.aastore, 1) := dk_83 (dk_at dksX7_init_3 0 rfl rfl)
theorem dX7_init_73 : decode cX7_init 73 = .ok (.iinc 1 1, 3) := dk_132 1 1 (dk_at dksX7_init_3 1 rfl rfl)
theorem dX7_init_76 : decode cX7_init 76 = .ok (.goto (-21), 3) := dk_167 255 235 (dk_at dksX7_init_3 4 rfl rfl)
theorem dX7_init_79 : decode cX7_init 79 = .ok (.return_, 1) := dk_177 (dk_at dksX7_init_3 7 rfl rfl)
def dkwX7_be_5 : List UInt8 := [43, 180, 0, 40, 181, 0, 40, 177]
abbrev dktX7_be_5 : List UInt8 := dkwX7_be_5 ++ []
def dkwX7_be_4 : List UInt8 := [43, 180, 0, 62, 181, 0, 62, 42, 43, 180, 0, 65, 181, 0, 65, 42, 43, 180, 0, 68, 181, 0, 68, 42]
abbrev dktX7_be_4 : List UInt8 := dkwX7_be_4 ++ dktX7_be_5
def dkwX7_be_3 : List UInt8 := [43, 180, 0, 36, 3, 42, 180, 0, 36, 3, 16, 8, 184, 0, 45, 42, 43, 180, 0, 58, 181, 0, 58, 42]
abbrev dktX7_be_3 : List UInt8 := dkwX7_be_3 ++ dktX7_be_4
def dkwX7_be_2 : List UInt8 := [182, 0, 55, 132, 2, 1, 167, 255, 233, 43, 180, 0, 32, 3, 42, 180, 0, 32, 3, 16, 10, 184, 0, 45]
abbrev dktX7_be_2 : List UInt8 := dkwX7_be_2 ++ dktX7_be_3
def dkwX7_be_1 : List UInt8 := [182, 0, 51, 3, 61, 28, 6, 162, 0, 24, 42, 180, 0, 26, 28, 50, 43, 180, 0, 26, 28, 50]
abbrev dktX7_be_1 : List UInt8 := dkwX7_be_1 ++ dktX7_be_2
def dkwX7_be_0 : List UInt8 := [43, 180, 0, 11, 3, 42, 180, 0, 11, 3, 8, 184, 0, 45, 42, 180, 0, 20, 43, 180, 0, 20]
abbrev dktX7_be_0 : List UInt8 := dkwX7_be_0 ++ dktX7_be_1
theorem dksX7_be_0 : cX7_be.data.toList.drop 0 = dktX7_be_0 := by decide +kernel
theorem dksX7_be_1 : cX7_be.data.toList.drop 22 = dktX7_be_1 := dk_seg dksX7_be_0 22 rfl rfl
theorem dksX7_be_2 : cX7_be.data.toList.drop 44 = dktX7_be_2 := dk_seg dksX7_be_1 22 rfl rfl
theorem dksX7_be_3 : cX7_be.data.toList.drop 68 = dktX7_be_3 := dk_seg dksX7_be_2 24 rfl rfl
theorem dksX7_be_4 : cX7_be.data.toList.drop 92 = dktX7_be_4 := dk_seg dksX7_be_3 24 rfl rfl
theorem dksX7_be_5 : cX7_be.data.toList.drop 116 = dktX7_be_5 := dk_seg dksX7_be_4 24 rfl rfl
theorem dX7_be_0 : decode cX7_be 0 = .ok (.aload_n 1, 1) := dk_43 (dk_at dksX7_be_0 0 rfl rfl)
theorem dX7_be_1 : decode cX7_be 1 = .ok (.getfield 11, 3) := dk_180 0 11 (dk_at dksX7_be_0 1 rfl rfl)
theorem dX7_be_4 : decode cX7_be 4 = .ok (.iconst 0, 1) := dk_3 (dk_at dksX7_be_0 4 rfl rfl)
theorem dX7_be_5 : decode cX7_be 5 = .ok (.aload_n 0, 1) := dk_42 (dk_at dksX7_be_0 5 rfl rfl)
theorem dX7_be_6 : decode cX7_be 6 = .ok (.getfield 11, 3) := dk_180 0 11 (dk_at dksX7_be_0 6 rfl rfl)
theorem dX7_be_9 : decode cX7_be 9 = .ok (.iconst 0, 1) := dk_3 (dk_at dksX7_be_0 9 rfl rfl)
theorem dX7_be_10 : decode cX7_be 10 = .ok (.iconst 5, 1) := dk_8 (dk_at dksX7_be_0 10 rfl rfl)
theorem dX7_be_11 : decode cX7_be 11 = .ok (.invokestatic 45, 3) := dk_184 0 45 (dk_at dksX7_be_0 11 rfl rfl)
theorem dX7_be_14 : decode cX7_be 14 = .ok (.aload_n 0, 1) := dk_42 (dk_at dksX7_be_0 14 rfl rfl)
theorem dX7_be_15 : decode cX7_be 15 = .ok (.getfield 20, 3) := dk_180 0 20 (dk_at dksX7_be_0 15 rfl rfl)
theorem dX7_be_18 : decode cX7_be 18 = .ok (.aload_n 1, 1) := dk_43 (dk_at dksX7_be_0 18 rfl rfl)
theorem dX7_be_19 : decode cX7_be 19 = .ok (.getfield 20, 3) := dk_180 0 20 (dk_at dksX7_be_0 19 rfl rfl)
theorem dX7_be_22 : decode cX7_be 22 = .ok (.invokevirtual 51, 3) := dk_182 0 51 (dk_at dksX7_be_1 0 rfl rfl)
theorem dX7_be_25 : decode cX7_be 25 = .ok (.iconst 0, 1) := dk_3 (dk_at dksX7_be_1 3 rfl rfl)
theorem dX7_be_26 : decode cX7_be 26 = .ok (.istore_n 2, 1) := dk_61 (dk_at dksX7_be_1 4 rfl rfl)
theorem dX7_be_27 : decode cX7_be 27 = .ok (.iload_n 2, 1) := dk_28 (dk_at dksX7_be_1 5 rfl rfl)
theorem dX7_be_28 : decode cX7_be 28 = .ok (.iconst 3, 1) := dk_6 (dk_at dksX7_be_1 6 rfl rfl)
theorem dX7_be_29 : decode cX7_be 29 = .ok (.if_icmp .ge 24, 3) := dk_162 0 24 (dk_at dksX7_be_1 7 rfl rfl)
theorem dX7_be_32 : decode cX7_be 32 = .ok (.aload_n 0, 1) := dk_42 (dk_at dksX7_be_1 10 rfl rfl)
theorem dX7_be_33 : decode cX7_be 33 = .ok (.getfield 26, 3) := dk_180 0 26 (dk_at dksX7_be_1 11 rfl rfl)
theorem dX7_be_36 : decode cX7_be 36 = .ok (.iload_n 2, 1) := dk_28 (dk_at dksX7_be_1 14 rfl rfl)
theorem dX7_be_37 : decode cX7_be 37 = .ok (.aaload, 1) := dk_50 (dk_at dksX7_be_1 15 rfl rfl)
theorem dX7_be_38 : decode cX7_be 38 = .ok (.aload_n 1, 1) := dk_43 (dk_at dksX7_be_1 16 rfl rfl)
theorem dX7_be_39 : decode cX7_be 39 = .ok (.getfield 26, 3) := dk_180 0 26 (dk_at dksX7_be_1 17 rfl rfl)
theorem dX7_be_42 : decode cX7_be 42 = .ok (.iload_n 2, 1) := dk_28 (dk_at dksX7_be_1 20 rfl rfl)
theorem dX7_be_43 : decode cX7_be 43 = .ok (.aaload, 1) := dk_50 (dk_at dksX7_be_1 21 rfl rfl)
theorem dX7_be_44 : decode cX7_be 44 = .ok (.invokevirtual 55, 3) := dk_182 0 55 (dk_at dksX7_be_2 0 rfl rfl)
theorem dX7_be_47 : decode cX7_be 47 = .ok (.iinc 2 1, 3) := dk_132 2 1 (dk_at dksX7_be_2 3 rfl rfl)
theorem dX7_be_50 : decode cX7_be 50 = .ok (.goto (-23), 3) := dk_167 255 233 (dk_at dksX7_be_2 6 rfl rfl)
theorem dX7_be_53 : decode cX7_be 53 = .ok (.aload_n 1, 1) := dk_43 (dk_at dksX7_be_2 9 rfl rfl)
theorem dX7_be_54 : decode cX7_be 54 = .ok (.getfield 32, 3) := dk_180 0 32 (dk_at dksX7_be_2 10 rfl rfl)
theorem dX7_be_57 : decode cX7_be 57 = .ok (.iconst 0, 1) := dk_3 (dk_at dksX7_be_2 13 rfl rfl)
theorem dX7_be_58 : decode cX7_be 58 = .ok (.aload_n 0, 1) := dk_42 (dk_at dksX7_be_2 14 rfl rfl)
theorem dX7_be_59 : decode cX7_be 59 = .ok (.getfield 32, 3) := dk_180 0 32 (dk_at dksX7_be_2 15 rfl rfl)
theorem dX7_be_62 : decode cX7_be 62 = .ok (.iconst 0, 1) := dk_3 (dk_at dksX7_be_2 18 rfl rfl)
theorem dX7_be_63 : decode cX7_be 63 = .ok (.bipush 10, 2) := dk_16 10 (dk_at dksX7_be_2 19 rfl rfl)
theorem dX7_be_65 : decode cX7_be 65 = .ok (.invokestatic 45, 3) := dk_184 0 45 (dk_at dksX7_be_2 21 rfl rfl)
theorem dX7_be_68 : decode cX7_be 68 = .ok (.aload_n 1, 1) := dk_43 (dk_at dksX7_be_3 0 rfl rfl)
theorem dX7_be_69 : decode cX7_be 69 = .ok (.getfield 36, 3) := dk_180 0 36 (dk_at dksX7_be_3 1 rfl rfl)
theorem dX7_be_72 : decode cX7_be 72 = .ok (.iconst 0, 1) := dk_3 (dk_at dksX7_be_3 4 rfl rfl)
theorem dX7_be_73 : decode cX7_be 73 = .ok (.aload_n 0, 1) := dk_42 (dk_at dksX7_be_3 5 rfl rfl)
theorem dX7_be_74 : decode cX7_be 74 = .ok (.getfield 36, 3) := dk_180 0 36 (dk_at dksX7_be_3 6 rfl rfl)
theorem dX7_be_77 : decode cX7_be 77 = .ok (.iconst 0, 1) := dk_3 (dk_at dksX7_be_3 9 rfl rfl)
theorem dX7_be_78 : decode cX7_be 78 = .ok (.bipush 8, 2) := dk_16 8 (dk_at dksX7_be_3 10 rfl rfl)
theorem dX7_be_80 : decode cX7_be 80 = .ok (.invokestatic 45, 3) := dk_184 0 45 (dk_at dksX7_be_3 12 rfl rfl)
theorem dX7_be_83 : decode cX7_be 83 = .ok (.aload_n 0, 1) := dk_42 (dk_at dksX7_be_3 15 rfl rfl)
theorem dX7_be_84 : decode cX7_be 84 = .ok (.aload_n 1, 1) := dk_43 (dk_at dksX7_be_3 16 rfl rfl)
theorem dX7_be_85 : decode cX7_be 85 = .ok (.getfield 58, 3) := dk_180 0 58 (dk_at dksX7_be_3 17 rfl rfl)
theorem dX7_be_88 : decode cX7_be 88 = .ok (.putfield 58, 3) := dk_181 0 58 (dk_at dksX7_be_3 20 rfl rfl)
theorem dX7_be_91 : decode cX7_be 91 = .ok (.aload_n 0, 1) := dk_42 (dk_at dksX7_be_3 23 rfl rfl)
theorem dX7_be_92 : decode cX7_be 92 = .ok (.aload_n 1, 1) := dk_43 (dk_at dksX7_be_4 0 rfl rfl)
theorem dX7_be_93 : decode cX7_be 93 = .ok (.getfield 62, 3) := dk_180 0 62 (dk_at dksX7_be_4 1 rfl rfl)
theorem dX7_be_96 : decode cX7_be 96 = .ok (.putfield 62, 3) := dk_181 0 62 (dk_at dksX7_be_4 4 rfl rfl)
theorem dX7_be_99 : decode cX7_be 99 = .ok (.aload_n 0, 1) := dk_42 (dk_at dksX7_be_4 7 rfl rfl)
theorem dX7_be_100 : decode cX7_be 100 = .ok (.aload_n 1, 1) := dk_43 (dk_at dksX7_be_4 8 rfl rfl)
theorem dX7_be_101 : decode cX7_be 101 = .ok (.getfield 65, 3) := dk_180 0 65 (dk_at dksX7_be_4 9 rfl rfl)
theorem dX7_be_104 : decode cX7_be 104 = .ok (.putfield 65, 3) := dk_181 0 65 (dk_at dksX7_be_4 12 rfl rfl)
theorem dX7_be_107 : decode cX7_be 107 = .ok (.aload_n 0, 1) := dk_42 (dk_at dksX7_be_4 15 rfl rfl)
theorem dX7_be_108 : decode cX7_be 108 = .ok (.aload_n 1, 1) := dk_43 (dk_at dksX7_be_4 16 rfl rfl)
theorem dX7_be_109 : decode cX7_be 109 = .ok (.getfield 68, 3) := dk_180 0 68 (dk_at dksX7_be_4 17 rfl rfl)
theorem dX7_be_112 : decode cX7_be 112 = .ok (.putfield 68, 3) := dk_181 0 68 (dk_at dksX7_be_4 20 rfl rfl)
theorem dX7_be_115 : decode cX7_be 115 = .ok (.aload_n 0, 1) := dk_42 (dk_at dksX7_be_4 23 rfl rfl)
theorem dX7_be_116 : decode cX7_be 116 = .ok (.aload_n 1, 1) := dk_43 (dk_at dksX7_be_5 0 rfl rfl)
theorem dX7_be_117 : decode cX7_be 117 = .ok (.getfield 40, 3) := dk_180 0 40 (dk_at dksX7_be_5 1 rfl rfl)
theorem dX7_be_120 : decode cX7_be 120 = .ok (.putfield 40, 3) := dk_181 0 40 (dk_at dksX7_be_5 4 rfl rfl)
theorem dX7_be_123 : decode cX7_be 123 = .ok (.return_, 1) := dk_177 (dk_at dksX7_be_5 7 rfl rfl)
def dkwX13_marks_2 : List UInt8 := [167, 255, 215, 177]
abbrev dktX13_marks_2 : List UInt8 := dkwX13_marks_2 ++ []
def dkwX13_marks_1 : List UInt8 := [184, 0, 13, 43, 28, 29, 3, 21, 5, 42, 180, 0, 7, 4, 25, 4, 184, 0, 13, 132, 5, 2]
abbrev dktX13_marks_1 : List UInt8 := dkwX13_marks_1 ++ dktX13_marks_2
def dkwX13_marks_0 : List UInt8 := [2, 54, 5, 21, 5, 4, 163, 0, 41, 43, 28, 29, 21, 5, 3, 42, 180, 0, 7, 4, 25, 4]
abbrev dktX13_marks_0 : List UInt8 := dkwX13_marks_0 ++ dktX13_marks_1
theorem dksX13_marks_0 : cX13_marks.data.toList.drop 0 = dktX13_marks_0 := by decide +kernel
theorem dksX13_marks_1 : cX13_marks.data.toList.drop 22 = dktX13_marks_1 := dk_seg dksX13_marks_0 22 rfl rfl
theorem dksX13_marks_2 : cX13_marks.data.toList.drop 44 = dktX13_marks_2 := dk_seg dksX13_marks_1 22 rfl rfl
theorem dX13_marks_0 : decode cX13_marks 0 = .ok (.iconst (-1), 1) := dk_2 (dk_at dksX13_marks_0 0 rfl rfl)
theorem dX13_marks_1 : decode cX13_marks 1 = .ok (.istore 5, 2) := dk_54 5 (dk_at dksX13_marks_0 1 rfl rfl)
theorem dX13_marks_3 : decode cX13_marks 3 = .ok (.iload 5, 2) := dk_21 5 (dk_at dksX13_marks_0 3 rfl rfl)
theorem dX13_marks_5 : decode cX13_marks 5 = .ok (.iconst 1, 1) := dk_4 (dk_at dksX13_marks_0 5 rfl rfl)
theorem dX13_marks_6 : decode cX13_marks 6 = .ok (.if_icmp .gt 41, 3) := dk_163 0 41 (dk_at dksX13_marks_0 6 rfl rfl)
theorem dX13_marks_9 : decode cX13_marks 9 = .ok (.aload_n 1, 1) := dk_43 (dk_at dksX13_marks_0 9 rfl rfl)
theorem dX13_marks_10 : decode cX13_marks 10 = .ok (.iload_n 2, 1) := dk_28 (dk_at dksX13_marks_0 10 rfl rfl)
theorem dX13_marks_11 : decode cX13_marks 11 = .ok (.iload_n 3, 1) := dk_29 (dk_at dksX13_marks_0 11 rfl rfl)
theorem dX13_marks_12 : decode cX13_marks 12 = .ok (.iload 5, 2) := dk_21 5 (dk_at dksX13_marks_0 12 rfl rfl)
theorem dX13_marks_14 : decode cX13_marks 14 = .ok (.iconst 0, 1) := dk_3 (dk_at dksX13_marks_0 14 rfl rfl)
theorem dX13_marks_15 : decode cX13_marks 15 = .ok (.aload_n 0, 1) := dk_42 (dk_at dksX13_marks_0 15 rfl rfl)
theorem dX13_marks_16 : decode cX13_marks 16 = .ok (.getfield 7, 3) := dk_180 0 7 (dk_at dksX13_marks_0 16 rfl rfl)
theorem dX13_marks_19 : decode cX13_marks 19 = .ok (.iconst 1, 1) := dk_4 (dk_at dksX13_marks_0 19 rfl rfl)
theorem dX13_marks_20 : decode cX13_marks 20 = .ok (.aload 4, 2) := dk_25 4 (dk_at dksX13_marks_0 20 rfl rfl)
theorem dX13_marks_22 : decode cX13_marks 22 = .ok (.invokestatic 13, 3) := dk_184 0 13 (dk_at dksX13_marks_1 0 rfl rfl)
theorem dX13_marks_25 : decode cX13_marks 25 = .ok (.aload_n 1, 1) := dk_43 (dk_at dksX13_marks_1 3 rfl rfl)
theorem dX13_marks_26 : decode cX13_marks 26 = .ok (.iload_n 2, 1) := dk_28 (dk_at dksX13_marks_1 4 rfl rfl)
theorem dX13_marks_27 : decode cX13_marks 27 = .ok (.iload_n 3, 1) := dk_29 (dk_at dksX13_marks_1 5 rfl rfl)
theorem dX13_marks_28 : decode cX13_marks 28 = .ok (.iconst 0, 1) := dk_3 (dk_at dksX13_marks_1 6 rfl rfl)
theorem dX13_marks_29 : decode cX13_marks 29 = .ok (.iload 5, 2) := dk_21 5 (dk_at dksX13_marks_1 7 rfl rfl)
theorem dX13_marks_31 : decode cX13_marks 31 = .ok (.aload_n 0, 1) := dk_42 (dk_at dksX13_marks_1 9 rfl rfl)
theorem dX13_marks_32 : decode cX13_marks 32 = .ok (.getfield 7, 3) := dk_180 0 7 (dk_at dksX13_marks_1 10 rfl rfl)
theorem dX13_marks_35 : decode cX13_marks 35 = .ok (.iconst 1, 1) := dk_4 (dk_at dksX13_marks_1 13 rfl rfl)
theorem dX13_marks_36 : decode cX13_marks 36 = .ok (.aload 4, 2) := dk_25 4 (dk_at dksX13_marks_1 14 rfl rfl)
theorem dX13_marks_38 : decode cX13_marks 38 = .ok (.invokestatic 13, 3) := dk_184 0 13 (dk_at dksX13_marks_1 16 rfl rfl)
theorem dX13_marks_41 : decode cX13_marks 41 = .ok (.iinc 5 2, 3) := dk_132 5 2 (dk_at dksX13_marks_1 19 rfl rfl)
theorem dX13_marks_44 : decode cX13_marks 44 = .ok (.goto (-41), 3) := dk_167 255 215 (dk_at dksX13_marks_2 0 rfl rfl)
theorem dX13_marks_47 : decode cX13_marks 47 = .ok (.return_, 1) := dk_177 (dk_at dksX13_marks_2 3 rfl rfl)
def dkwX13_init_0 : List UInt8 := [42, 183, 0, 1, 42, 27, 181, 0, 7, 177]
abbrev dktX13_init_0 : List UInt8 := dkwX13_init_0 ++ []
theorem dksX13_init_0 : cX13_init.data.toList.drop 0 = dktX13_init_0 := by decide +kernel
theorem dX13_init_0 : decode cX13_init 0 = .ok (.aload_n 0, 1) := dk_42 (dk_at dksX13_init_0 0 rfl rfl)
theorem dX13_init_1 : decode cX13_init 1 = .ok (.invokespecial 1, 3) := dk_183 0 1 (dk_at dksX13_init_0 1 rfl rfl)
theorem dX13_init_4 : decode cX13_init 4 = .ok (.aload_n 0, 1) := dk_42 (dk_at dksX13_init_0 4 rfl rfl)
theorem dX13_init_5 : decode cX13_init 5 = .ok (.iload_n 1, 1) := dk_27 (dk_at dksX13_init_0 5 rfl rfl)
theorem dX13_init_6 : decode cX13_init 6 = .ok (.putfield 7, 3) := dk_181 0 7 (dk_at dksX13_init_0 6 rfl rfl)
theorem dX13_init_9 : decode cX13_init 9 = .ok (.return_, 1) := dk_177 (dk_at dksX13_init_0 9 rfl rfl)
def dkwX14_marks_2 : List UInt8 := [177]
abbrev dktX14_marks_2 : List UInt8 := dkwX14_marks_2 ++ []
def dkwX14_marks_1 : List UInt8 := [21, 6, 42, 180, 0, 7, 4, 25, 4, 184, 0, 13, 132, 6, 2, 167, 255, 230, 132, 5, 2, 167, 255, 215]
abbrev dktX14_marks_1 : List UInt8 := dkwX14_marks_1 ++ dktX14_marks_2
def dkwX14_marks_0 : List UInt8 := [2, 54, 5, 21, 5, 4, 163, 0, 41, 2, 54, 6, 21, 6, 4, 163, 0, 26, 43, 28, 29, 21, 5]
abbrev dktX14_marks_0 : List UInt8 := dkwX14_marks_0 ++ dktX14_marks_1
theorem dksX14_marks_0 : cX14_marks.data.toList.drop 0 = dktX14_marks_0 := by decide +kernel
theorem dksX14_marks_1 : cX14_marks.data.toList.drop 23 = dktX14_marks_1 := dk_seg dksX14_marks_0 23 rfl rfl
theorem dksX14_marks_2 : cX14_marks.data.toList.drop 47 = dktX14_marks_2 := dk_seg dksX14_marks_1 24 rfl rfl
theorem dX14_marks_0 : decode cX14_marks 0 = .ok (.iconst (-1), 1) := dk_2 (dk_at dksX14_marks_0 0 rfl rfl)
theorem dX14_marks_1 : decode cX14_marks 1 = .ok (.istore 5, 2) := dk_54 5 (dk_at dksX14_marks_0 1 rfl rfl)
theorem dX14_marks_3 : decode cX14_marks 3 = .ok (.iload 5, 2) := dk_21 5 (dk_at dksX14_marks_0 3 rfl rfl)
theorem dX14_marks_5 : decode cX14_marks 5 = .ok (.iconst 1, 1) := dk_4 (dk_at dksX14_marks_0 5 rfl rfl)
theorem dX14_marks_6 : decode cX14_marks 6 = .ok (.if_icmp .gt 41, 3) := dk_163 0 41 (dk_at dksX14_marks_0 6 rfl rfl)
theorem dX14_marks_9 : decode cX14_marks 9 = .ok (.iconst (-1), 1) := dk_2 (dk_at dksX14_marks_0 9 rfl rfl)
theorem dX14_marks_10 : decode cX14_marks 10 = .ok (.istore 6, 2) := dk_54 6 (dk_at dksX14_marks_0 10 rfl rfl)
theorem dX14_marks_12 : decode cX14_marks 12 = .ok (.iload 6, 2) := dk_21 6 (dk_at dksX14_marks_0 12 rfl rfl)
theorem dX14_marks_14 : decode cX14_marks 14 = .ok (.iconst 1, 1) := dk_4 (dk_at dksX14_marks_0 14 rfl rfl)
theorem dX14_marks_15 : decode cX14_marks 15 = .ok (.if_icmp .gt 26, 3) := dk_163 0 26 (dk_at dksX14_marks_0 15 rfl rfl)
theorem dX14_marks_18 : decode cX14_marks 18 = .ok (.aload_n 1, 1) := dk_43 (dk_at dksX14_marks_0 18 rfl rfl)
theorem dX14_marks_19 : decode cX14_marks 19 = .ok (.iload_n 2, 1) := dk_28 (dk_at dksX14_marks_0 19 rfl rfl)
theorem dX14_marks_20 : decode cX14_marks 20 = .ok (.iload_n 3, 1) := dk_29 (dk_at dksX14_marks_0 20 rfl rfl)
theorem dX14_marks_21 : decode cX14_marks 21 = .ok (.iload 5, 2) := dk_21 5 (dk_at dksX14_marks_0 21 rfl rfl)
theorem dX14_marks_23 : decode cX14_marks 23 = .ok (.iload 6, 2) := dk_21 6 (dk_at dksX14_marks_1 0 rfl rfl)
theorem dX14_marks_25 : decode cX14_marks 25 = .ok (.aload_n 0, 1) := dk_42 (dk_at dksX14_marks_1 2 rfl rfl)
theorem dX14_marks_26 : decode cX14_marks 26 = .ok (.getfield 7, 3) := dk_180 0 7 (dk_at dksX14_marks_1 3 rfl rfl)
theorem dX14_marks_29 : decode cX14_marks 29 = .ok (.iconst 1, 1) := dk_4 (dk_at dksX14_marks_1 6 rfl rfl)
theorem dX14_marks_30 : decode cX14_marks 30 = .ok (.aload 4, 2) := dk_25 4 (dk_at dksX14_marks_1 7 rfl rfl)
theorem dX14_marks_32 : decode cX14_marks 32 = .ok (.invokestatic 13, 3) := dk_184 0 13 (dk_at dksX14_marks_1 9 rfl rfl)
theorem dX14_marks_35 : decode cX14_marks 35 = .ok (.iinc 6 2, 3) := dk_132 6 2 (dk_at dksX14_marks_1 12 rfl rfl)
theorem dX14_marks_38 : decode cX14_marks 38 = .ok (.goto (-26), 3) := dk_167 255 230 (dk_at dksX14_marks_1 15 rfl rfl)
theorem dX14_marks_41 : decode cX14_marks 41 = .ok (.iinc 5 2, 3) := dk_132 5 2 (dk_at dksX14_marks_1 18 rfl rfl)
theorem dX14_marks_44 : decode cX14_marks 44 = .ok (.goto (-41), 3) := dk_167 255 215 (dk_at dksX14_marks_1 21 rfl rfl)
theorem dX14_marks_47 : decode cX14_marks 47 = .ok (.return_, 1) := dk_177 (dk_at dksX14_marks_2 0 rfl rfl)
def dkwX14_init_0 : List UInt8 := [42, 183, 0, 1, 42, 27, 181, 0, 7, 177]
abbrev dktX14_init_0 : List UInt8 := dkwX14_init_0 ++ []
theorem dksX14_init_0 : cX14_init.data.toList.drop 0 = dktX14_init_0 := by decide +kernel
theorem dX14_init_0 : decode cX14_init 0 = .ok (.aload_n 0, 1) := dk_42 (dk_at dksX14_init_0 0 rfl rfl)
theorem dX14_init_1 : decode cX14_init 1 = .ok (.invokespecial 1, 3) := dk_183 0 1 (dk_at dksX14_init_0 1 rfl rfl)
theorem dX14_init_4 : decode cX14_init 4 = .ok (.aload_n 0, 1) := dk_42 (dk_at dksX14_init_0 4 rfl rfl)
theorem dX14_init_5 : decode cX14_init 5 = .ok (.iload_n 1, 1) := dk_27 (dk_at dksX14_init_0 5 rfl rfl)
theorem dX14_init_6 : decode cX14_init 6 = .ok (.putfield 7, 3) := dk_181 0 7 (dk_at dksX14_init_0 6 rfl rfl)
theorem dX14_init_9 : decode cX14_init 9 = .ok (.return_, 1) := dk_177 (dk_at dksX14_init_0 9 rfl rfl)
def dkwX15_marks_0 : List UInt8 := [43, 28, 29, 3, 29, 154, 0, 7, 4, 167, 0, 4, 2, 42, 180, 0, 7, 3, 25, 4, 184, 0, 13, 177]
abbrev dktX15_marks_0 : List UInt8 := dkwX15_marks_0 ++ []
theorem dksX15_marks_0 : cX15_marks.data.toList.drop 0 = dktX15_marks_0 := by decide +kernel
theorem dX15_marks_0 : decode cX15_marks 0 = .ok (.aload_n 1, 1) := dk_43 (dk_at dksX15_marks_0 0 rfl rfl)
theorem dX15_marks_1 : decode cX15_marks 1 = .ok (.iload_n 2, 1) := dk_28 (dk_at dksX15_marks_0 1 rfl rfl)
theorem dX15_marks_2 : decode cX15_marks 2 = .ok (.iload_n 3, 1) := dk_29 (dk_at dksX15_marks_0 2 rfl rfl)
theorem dX15_marks_3 : decode cX15_marks 3 = .ok (.iconst 0, 1) := dk_3 (dk_at dksX15_marks_0 3 rfl rfl)
theorem dX15_marks_4 : decode cX15_marks 4 = .ok (.iload_n 3, 1) := dk_29 (dk_at dksX15_marks_0 4 rfl rfl)
theorem dX15_marks_5 : decode cX15_marks 5 = .ok (.ifCond .ne 7, 3) := dk_154 0 7 (dk_at dksX15_marks_0 5 rfl rfl)
theorem dX15_marks_8 : decode cX15_marks 8 = .ok (.iconst 1, 1) := dk_4 (dk_at dksX15_marks_0 8 rfl rfl)
theorem dX15_marks_9 : decode cX15_marks 9 = .ok (.goto 4, 3) := dk_167 0 4 (dk_at dksX15_marks_0 9 rfl rfl)
theorem dX15_marks_12 : decode cX15_marks 12 = .ok (.iconst (-1), 1) := dk_2 (dk_at dksX15_marks_0 12 rfl rfl)
theorem dX15_marks_13 : decode cX15_marks 13 = .ok (.aload_n 0, 1) := dk_42 (dk_at dksX15_marks_0 13 rfl rfl)
theorem dX15_marks_14 : decode cX15_marks 14 = .ok (.getfield 7, 3) := dk_180 0 7 (dk_at dksX15_marks_0 14 rfl rfl)
theorem dX15_marks_17 : decode cX15_marks 17 = .ok (.iconst 0, 1) := dk_3 (dk_at dksX15_marks_0 17 rfl rfl)
theorem dX15_marks_18 : decode cX15_marks 18 = .ok (.aload 4, 2) := dk_25 4 (dk_at dksX15_marks_0 18 rfl rfl)
theorem dX15_marks_20 : decode cX15_marks 20 = .ok (.invokestatic 13, 3) := dk_184 0 13 (dk_at dksX15_marks_0 20 rfl rfl)
theorem dX15_marks_23 : decode cX15_marks 23 = .ok (.return_, 1) := dk_177 (dk_at dksX15_marks_0 23 rfl rfl)
def dkwX15_init_0 : List UInt8 := [42, 183, 0, 1, 42, 27, 181, 0, 7, 177]
abbrev dktX15_init_0 : List UInt8 := dkwX15_init_0 ++ []
theorem dksX15_init_0 : cX15_init.data.toList.drop 0 = dktX15_init_0 := by decide +kernel
theorem dX15_init_0 : decode cX15_init 0 = .ok (.aload_n 0, 1) := dk_42 (dk_at dksX15_init_0 0 rfl rfl)
theorem dX15_init_1 : decode cX15_init 1 = .ok (.invokespecial 1, 3) := dk_183 0 1 (dk_at dksX15_init_0 1 rfl rfl)
theorem dX15_init_4 : decode cX15_init 4 = .ok (.aload_n 0, 1) := dk_42 (dk_at dksX15_init_0 4 rfl rfl)
theorem dX15_init_5 : decode cX15_init 5 = .ok (.iload_n 1, 1) := dk_27 (dk_at dksX15_init_0 5 rfl rfl)
theorem dX15_init_6 : decode cX15_init 6 = .ok (.putfield 7, 3) := dk_181 0 7 (dk_at dksX15_init_0 6 rfl rfl)
theorem dX15_init_9 : decode cX15_init 9 = .ok (.return_, 1) := dk_177 (dk_at dksX15_init_0 9 rfl rfl)
def dkwX18_holds_0 : List UInt8 := [43, 42, 180, 0, 7, 46, 153, 0, 7, 4, 167, 0, 4, 3, 172]
abbrev dktX18_holds_0 : List UInt8 := dkwX18_holds_0 ++ []
theorem dksX18_holds_0 : cX18_holds.data.toList.drop 0 = dktX18_holds_0 := by decide +kernel
theorem dX18_holds_0 : decode cX18_holds 0 = .ok (.aload_n 1, 1) := dk_43 (dk_at dksX18_holds_0 0 rfl rfl)
theorem dX18_holds_1 : decode cX18_holds 1 = .ok (.aload_n 0, 1) := dk_42 (dk_at dksX18_holds_0 1 rfl rfl)
theorem dX18_holds_2 : decode cX18_holds 2 = .ok (.getfield 7, 3) := dk_180 0 7 (dk_at dksX18_holds_0 2 rfl rfl)
theorem dX18_holds_5 : decode cX18_holds 5 = .ok (.iaload, 1) := dk_46 (dk_at dksX18_holds_0 5 rfl rfl)
theorem dX18_holds_6 : decode cX18_holds 6 = .ok (.ifCond .eq 7, 3) := dk_153 0 7 (dk_at dksX18_holds_0 6 rfl rfl)
theorem dX18_holds_9 : decode cX18_holds 9 = .ok (.iconst 1, 1) := dk_4 (dk_at dksX18_holds_0 9 rfl rfl)
theorem dX18_holds_10 : decode cX18_holds 10 = .ok (.goto 4, 3) := dk_167 0 4 (dk_at dksX18_holds_0 10 rfl rfl)
theorem dX18_holds_13 : decode cX18_holds 13 = .ok (.iconst 0, 1) := dk_3 (dk_at dksX18_holds_0 13 rfl rfl)
theorem dX18_holds_14 : decode cX18_holds 14 = .ok (.ireturn, 1) := dk_172 (dk_at dksX18_holds_0 14 rfl rfl)
def dkwX18_init_0 : List UInt8 := [42, 183, 0, 1, 42, 27, 181, 0, 7, 177]
abbrev dktX18_init_0 : List UInt8 := dkwX18_init_0 ++ []
theorem dksX18_init_0 : cX18_init.data.toList.drop 0 = dktX18_init_0 := by decide +kernel
theorem dX18_init_0 : decode cX18_init 0 = .ok (.aload_n 0, 1) := dk_42 (dk_at dksX18_init_0 0 rfl rfl)
theorem dX18_init_1 : decode cX18_init 1 = .ok (.invokespecial 1, 3) := dk_183 0 1 (dk_at dksX18_init_0 1 rfl rfl)
theorem dX18_init_4 : decode cX18_init 4 = .ok (.aload_n 0, 1) := dk_42 (dk_at dksX18_init_0 4 rfl rfl)
theorem dX18_init_5 : decode cX18_init 5 = .ok (.iload_n 1, 1) := dk_27 (dk_at dksX18_init_0 5 rfl rfl)
theorem dX18_init_6 : decode cX18_init 6 = .ok (.putfield 7, 3) := dk_181 0 7 (dk_at dksX18_init_0 6 rfl rfl)
theorem dX18_init_9 : decode cX18_init 9 = .ok (.return_, 1) := dk_177 (dk_at dksX18_init_0 9 rfl rfl)
