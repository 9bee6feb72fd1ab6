/-! DECODE ROWS BY BYTES: one lemma an opcode; a method's code is cut into short pieces once, and a row reads its own piece alone. -/
set_option maxRecDepth 100000
/-- the code has just these bytes from pc on -/
def DkAt (code : ByteArray) (pc : Nat) (bs : List UInt8) : Prop := ∀ (j : Nat) (b : UInt8), bs[j]? = some b → code.data.toList[pc + j]? = some b
/-- the piece W has the bytes bs from its place j on -/
def dkIn (W : List UInt8) (j : Nat) (bs : List UInt8) : Bool := decide ((W.drop j).take bs.length = bs)
theorem dk_seg {l W T : List UInt8} {o o2 : Nat} (h : l.drop o = W ++ T) (n : Nat) (hn : W.length = n) (ho : o + n = o2) : l.drop o2 = T := by
  subst ho
  rw [← List.drop_drop, h, List.drop_left' hn]
theorem dk_at {code : ByteArray} {W T bs : List UInt8} {o pc : Nat} (h : code.data.toList.drop o = W ++ T) (j : Nat) (hp : o + j = pc) (hw : dkIn W j bs = true) : DkAt code pc bs := by
  subst hp
  intro i b e
  have h1 := of_decide_eq_true hw
  have h2 : i < bs.length := (List.getElem?_eq_some_iff.mp e).1
  have h3 : W[j + i]? = some b := by
    rw [← h1, List.getElem?_take, if_pos h2, List.getElem?_drop] at e
    exact e
  have h4 : j + i < W.length := (List.getElem?_eq_some_iff.mp h3).1
  have h5 : (code.data.toList.drop o)[j + i]? = some b := by
    rw [h, List.getElem?_append_left h4]
    exact h3
  rw [List.getElem?_drop, ← Nat.add_assoc] at h5
  exact h5
theorem dk_u1 {A : ByteArray} {p : Nat} {b : UInt8} (h : A.data.toList[p]? = some b) : (Reader.u1 : Reader DecodeError Nat) A p = .ok (b.toNat, p + 1) := by
  obtain ⟨h1, h2⟩ := List.getElem?_eq_some_iff.mp h
  have h3 : p < A.size := by simpa using h1
  have h4 : A[p]'h3 = b := h2
  have e : (Reader.u1 : Reader DecodeError Nat) A p = (if h : p < A.size then .ok (A[p].toNat, p + 1) else .error (HasTruncated.truncated p)) := by
    show (do if h : p < A.size then do set (p + 1); Pure.pure A[p].toNat else MonadExcept.throw (HasTruncated.truncated p) : Reader DecodeError Nat) A p = _
    by_cases hi : p < A.size
    · rw [dif_pos hi, dif_pos hi]; rfl
    · rw [dif_neg hi, dif_neg hi]; rfl
  rw [e, dif_pos h3, h4]
theorem dk_bind {α β : Type} {r : Reader DecodeError α} {f : α → Reader DecodeError β} {A : ByteArray} {p s : Nat} {a : α} (h : r A p = .ok (a, s)) : (r >>= f) A p = f a A s := by
  show (do let (a, s) ← r A p; f a A s : Except DecodeError (β × Nat)) = _
  rw [h]
  rfl
theorem dk_map {α β : Type} {r : Reader DecodeError α} {g : α → β} {A : ByteArray} {p s : Nat} {a : α} (h : r A p = .ok (a, s)) : (g <$> r) A p = .ok (g a, s) := by
  show (do let (a, s) ← r A p; .ok (g a, s) : Except DecodeError (β × Nat)) = _
  rw [h]
  rfl
theorem dk_u2 {A : ByteArray} {p : Nat} {a b : UInt8} (h : A.data.toList[p]? = some a) (h2 : A.data.toList[p + 1]? = some b) : (Reader.u2 : Reader DecodeError Nat) A p = .ok (a.toNat * 256 + b.toNat, p + 2) := by
  show (Reader.u1 >>= fun hi => Reader.u1 >>= fun lo => Pure.pure (hi * 256 + lo) : Reader DecodeError Nat) A p = _
  rw [dk_bind (dk_u1 h), dk_bind (dk_u1 h2)]
  rfl
theorem dk_of {code : ByteArray} {pc n : Nat} {i : Instr} (h : Decoder.instr pc code pc = .ok (i, pc + n)) : decode code pc = .ok (i, n) := by
  have e : decode code pc = (match Decoder.instr pc code pc with | .error x => .error x | .ok (j, s) => .ok (j, s - pc)) := by
    show (do let (j, s) ← Decoder.instr pc code pc; Pure.pure (j, s - pc) : Except DecodeError (Instr × Nat)) = _
    cases Decoder.instr pc code pc <;> rfl
  rw [e, h]
  show Except.ok (i, pc + n - pc) = _
  rw [Nat.add_sub_cancel_left]
theorem dk_2 {code : ByteArray} {pc : Nat} (h : DkAt code pc [2]) : decode code pc = .ok (.iconst (-1), 1) := dk_of ((dk_bind (dk_u1 (h 0 _ rfl))).trans rfl)
theorem dk_3 {code : ByteArray} {pc : Nat} (h : DkAt code pc [3]) : decode code pc = .ok (.iconst 0, 1) := dk_of ((dk_bind (dk_u1 (h 0 _ rfl))).trans rfl)
theorem dk_4 {code : ByteArray} {pc : Nat} (h : DkAt code pc [4]) : decode code pc = .ok (.iconst 1, 1) := dk_of ((dk_bind (dk_u1 (h 0 _ rfl))).trans rfl)
theorem dk_5 {code : ByteArray} {pc : Nat} (h : DkAt code pc [5]) : decode code pc = .ok (.iconst 2, 1) := dk_of ((dk_bind (dk_u1 (h 0 _ rfl))).trans rfl)
theorem dk_6 {code : ByteArray} {pc : Nat} (h : DkAt code pc [6]) : decode code pc = .ok (.iconst 3, 1) := dk_of ((dk_bind (dk_u1 (h 0 _ rfl))).trans rfl)
theorem dk_7 {code : ByteArray} {pc : Nat} (h : DkAt code pc [7]) : decode code pc = .ok (.iconst 4, 1) := dk_of ((dk_bind (dk_u1 (h 0 _ rfl))).trans rfl)
theorem dk_8 {code : ByteArray} {pc : Nat} (h : DkAt code pc [8]) : decode code pc = .ok (.iconst 5, 1) := dk_of ((dk_bind (dk_u1 (h 0 _ rfl))).trans rfl)
theorem dk_9 {code : ByteArray} {pc : Nat} (h : DkAt code pc [9]) : decode code pc = .ok (.lconst 0, 1) := dk_of ((dk_bind (dk_u1 (h 0 _ rfl))).trans rfl)
theorem dk_10 {code : ByteArray} {pc : Nat} (h : DkAt code pc [10]) : decode code pc = .ok (.lconst 1, 1) := dk_of ((dk_bind (dk_u1 (h 0 _ rfl))).trans rfl)
theorem dk_16 {code : ByteArray} {pc : Nat} (a : UInt8) (h : DkAt code pc [16, a]) : decode code pc = .ok (.bipush (Reader.signed 8 a.toNat), 2) := dk_of ((dk_bind (dk_u1 (h 0 _ rfl))).trans ((dk_bind (dk_map (dk_u1 (h 1 _ rfl)))).trans rfl))
theorem dk_17 {code : ByteArray} {pc : Nat} (a b : UInt8) (h : DkAt code pc [17, a, b]) : decode code pc = .ok (.sipush (Reader.signed 16 (a.toNat * 256 + b.toNat)), 3) := dk_of ((dk_bind (dk_u1 (h 0 _ rfl))).trans ((dk_bind (dk_map (dk_u2 (h 1 _ rfl) (h 2 _ rfl)))).trans rfl))
theorem dk_18 {code : ByteArray} {pc : Nat} (a : UInt8) (h : DkAt code pc [18, a]) : decode code pc = .ok (.ldc a.toNat, 2) := dk_of ((dk_bind (dk_u1 (h 0 _ rfl))).trans ((dk_bind (dk_u1 (h 1 _ rfl))).trans rfl))
theorem dk_20 {code : ByteArray} {pc : Nat} (a b : UInt8) (h : DkAt code pc [20, a, b]) : decode code pc = .ok (.ldc2_w (a.toNat * 256 + b.toNat), 3) := dk_of ((dk_bind (dk_u1 (h 0 _ rfl))).trans ((dk_bind (dk_u2 (h 1 _ rfl) (h 2 _ rfl))).trans rfl))
theorem dk_21 {code : ByteArray} {pc : Nat} (a : UInt8) (h : DkAt code pc [21, a]) : decode code pc = .ok (.iload a.toNat, 2) := dk_of ((dk_bind (dk_u1 (h 0 _ rfl))).trans ((dk_bind (dk_u1 (h 1 _ rfl))).trans rfl))
theorem dk_22 {code : ByteArray} {pc : Nat} (a : UInt8) (h : DkAt code pc [22, a]) : decode code pc = .ok (.lload a.toNat, 2) := dk_of ((dk_bind (dk_u1 (h 0 _ rfl))).trans ((dk_bind (dk_u1 (h 1 _ rfl))).trans rfl))
theorem dk_25 {code : ByteArray} {pc : Nat} (a : UInt8) (h : DkAt code pc [25, a]) : decode code pc = .ok (.aload a.toNat, 2) := dk_of ((dk_bind (dk_u1 (h 0 _ rfl))).trans ((dk_bind (dk_u1 (h 1 _ rfl))).trans rfl))
theorem dk_26 {code : ByteArray} {pc : Nat} (h : DkAt code pc [26]) : decode code pc = .ok (.iload_n 0, 1) := dk_of ((dk_bind (dk_u1 (h 0 _ rfl))).trans rfl)
theorem dk_27 {code : ByteArray} {pc : Nat} (h : DkAt code pc [27]) : decode code pc = .ok (.iload_n 1, 1) := dk_of ((dk_bind (dk_u1 (h 0 _ rfl))).trans rfl)
theorem dk_28 {code : ByteArray} {pc : Nat} (h : DkAt code pc [28]) : decode code pc = .ok (.iload_n 2, 1) := dk_of ((dk_bind (dk_u1 (h 0 _ rfl))).trans rfl)
theorem dk_29 {code : ByteArray} {pc : Nat} (h : DkAt code pc [29]) : decode code pc = .ok (.iload_n 3, 1) := dk_of ((dk_bind (dk_u1 (h 0 _ rfl))).trans rfl)
theorem dk_30 {code : ByteArray} {pc : Nat} (h : DkAt code pc [30]) : decode code pc = .ok (.lload_n 0, 1) := dk_of ((dk_bind (dk_u1 (h 0 _ rfl))).trans rfl)
theorem dk_32 {code : ByteArray} {pc : Nat} (h : DkAt code pc [32]) : decode code pc = .ok (.lload_n 2, 1) := dk_of ((dk_bind (dk_u1 (h 0 _ rfl))).trans rfl)
theorem dk_33 {code : ByteArray} {pc : Nat} (h : DkAt code pc [33]) : decode code pc = .ok (.lload_n 3, 1) := dk_of ((dk_bind (dk_u1 (h 0 _ rfl))).trans rfl)
theorem dk_42 {code : ByteArray} {pc : Nat} (h : DkAt code pc [42]) : decode code pc = .ok (.aload_n 0, 1) := dk_of ((dk_bind (dk_u1 (h 0 _ rfl))).trans rfl)
theorem dk_43 {code : ByteArray} {pc : Nat} (h : DkAt code pc [43]) : decode code pc = .ok (.aload_n 1, 1) := dk_of ((dk_bind (dk_u1 (h 0 _ rfl))).trans rfl)
theorem dk_44 {code : ByteArray} {pc : Nat} (h : DkAt code pc [44]) : decode code pc = .ok (.aload_n 2, 1) := dk_of ((dk_bind (dk_u1 (h 0 _ rfl))).trans rfl)
theorem dk_45 {code : ByteArray} {pc : Nat} (h : DkAt code pc [45]) : decode code pc = .ok (.aload_n 3, 1) := dk_of ((dk_bind (dk_u1 (h 0 _ rfl))).trans rfl)
theorem dk_46 {code : ByteArray} {pc : Nat} (h : DkAt code pc [46]) : decode code pc = .ok (.iaload, 1) := dk_of ((dk_bind (dk_u1 (h 0 _ rfl))).trans rfl)
theorem dk_47 {code : ByteArray} {pc : Nat} (h : DkAt code pc [47]) : decode code pc = .ok (.laload, 1) := dk_of ((dk_bind (dk_u1 (h 0 _ rfl))).trans rfl)
theorem dk_50 {code : ByteArray} {pc : Nat} (h : DkAt code pc [50]) : decode code pc = .ok (.aaload, 1) := dk_of ((dk_bind (dk_u1 (h 0 _ rfl))).trans rfl)
theorem dk_51 {code : ByteArray} {pc : Nat} (h : DkAt code pc [51]) : decode code pc = .ok (.baload, 1) := dk_of ((dk_bind (dk_u1 (h 0 _ rfl))).trans rfl)
theorem dk_52 {code : ByteArray} {pc : Nat} (h : DkAt code pc [52]) : decode code pc = .ok (.caload, 1) := dk_of ((dk_bind (dk_u1 (h 0 _ rfl))).trans rfl)
theorem dk_54 {code : ByteArray} {pc : Nat} (a : UInt8) (h : DkAt code pc [54, a]) : decode code pc = .ok (.istore a.toNat, 2) := dk_of ((dk_bind (dk_u1 (h 0 _ rfl))).trans ((dk_bind (dk_u1 (h 1 _ rfl))).trans rfl))
theorem dk_55 {code : ByteArray} {pc : Nat} (a : UInt8) (h : DkAt code pc [55, a]) : decode code pc = .ok (.lstore a.toNat, 2) := dk_of ((dk_bind (dk_u1 (h 0 _ rfl))).trans ((dk_bind (dk_u1 (h 1 _ rfl))).trans rfl))
theorem dk_58 {code : ByteArray} {pc : Nat} (a : UInt8) (h : DkAt code pc [58, a]) : decode code pc = .ok (.astore a.toNat, 2) := dk_of ((dk_bind (dk_u1 (h 0 _ rfl))).trans ((dk_bind (dk_u1 (h 1 _ rfl))).trans rfl))
theorem dk_60 {code : ByteArray} {pc : Nat} (h : DkAt code pc [60]) : decode code pc = .ok (.istore_n 1, 1) := dk_of ((dk_bind (dk_u1 (h 0 _ rfl))).trans rfl)
theorem dk_61 {code : ByteArray} {pc : Nat} (h : DkAt code pc [61]) : decode code pc = .ok (.istore_n 2, 1) := dk_of ((dk_bind (dk_u1 (h 0 _ rfl))).trans rfl)
theorem dk_62 {code : ByteArray} {pc : Nat} (h : DkAt code pc [62]) : decode code pc = .ok (.istore_n 3, 1) := dk_of ((dk_bind (dk_u1 (h 0 _ rfl))).trans rfl)
theorem dk_65 {code : ByteArray} {pc : Nat} (h : DkAt code pc [65]) : decode code pc = .ok (.lstore_n 2, 1) := dk_of ((dk_bind (dk_u1 (h 0 _ rfl))).trans rfl)
theorem dk_66 {code : ByteArray} {pc : Nat} (h : DkAt code pc [66]) : decode code pc = .ok (.lstore_n 3, 1) := dk_of ((dk_bind (dk_u1 (h 0 _ rfl))).trans rfl)
theorem dk_76 {code : ByteArray} {pc : Nat} (h : DkAt code pc [76]) : decode code pc = .ok (.astore_n 1, 1) := dk_of ((dk_bind (dk_u1 (h 0 _ rfl))).trans rfl)
theorem dk_77 {code : ByteArray} {pc : Nat} (h : DkAt code pc [77]) : decode code pc = .ok (.astore_n 2, 1) := dk_of ((dk_bind (dk_u1 (h 0 _ rfl))).trans rfl)
theorem dk_78 {code : ByteArray} {pc : Nat} (h : DkAt code pc [78]) : decode code pc = .ok (.astore_n 3, 1) := dk_of ((dk_bind (dk_u1 (h 0 _ rfl))).trans rfl)
theorem dk_79 {code : ByteArray} {pc : Nat} (h : DkAt code pc [79]) : decode code pc = .ok (.iastore, 1) := dk_of ((dk_bind (dk_u1 (h 0 _ rfl))).trans rfl)
theorem dk_80 {code : ByteArray} {pc : Nat} (h : DkAt code pc [80]) : decode code pc = .ok (.lastore, 1) := dk_of ((dk_bind (dk_u1 (h 0 _ rfl))).trans rfl)
theorem dk_83 {code : ByteArray} {pc : Nat} (h : DkAt code pc [83]) : decode code pc = .ok (.aastore, 1) := dk_of ((dk_bind (dk_u1 (h 0 _ rfl))).trans rfl)
theorem dk_84 {code : ByteArray} {pc : Nat} (h : DkAt code pc [84]) : decode code pc = .ok (.bastore, 1) := dk_of ((dk_bind (dk_u1 (h 0 _ rfl))).trans rfl)
theorem dk_85 {code : ByteArray} {pc : Nat} (h : DkAt code pc [85]) : decode code pc = .ok (.castore, 1) := dk_of ((dk_bind (dk_u1 (h 0 _ rfl))).trans rfl)
theorem dk_87 {code : ByteArray} {pc : Nat} (h : DkAt code pc [87]) : decode code pc = .ok (.pop, 1) := dk_of ((dk_bind (dk_u1 (h 0 _ rfl))).trans rfl)
theorem dk_89 {code : ByteArray} {pc : Nat} (h : DkAt code pc [89]) : decode code pc = .ok (.dup, 1) := dk_of ((dk_bind (dk_u1 (h 0 _ rfl))).trans rfl)
theorem dk_92 {code : ByteArray} {pc : Nat} (h : DkAt code pc [92]) : decode code pc = .ok (.dup2, 1) := dk_of ((dk_bind (dk_u1 (h 0 _ rfl))).trans rfl)
theorem dk_96 {code : ByteArray} {pc : Nat} (h : DkAt code pc [96]) : decode code pc = .ok (.iadd, 1) := dk_of ((dk_bind (dk_u1 (h 0 _ rfl))).trans rfl)
theorem dk_97 {code : ByteArray} {pc : Nat} (h : DkAt code pc [97]) : decode code pc = .ok (.ladd, 1) := dk_of ((dk_bind (dk_u1 (h 0 _ rfl))).trans rfl)
theorem dk_100 {code : ByteArray} {pc : Nat} (h : DkAt code pc [100]) : decode code pc = .ok (.isub, 1) := dk_of ((dk_bind (dk_u1 (h 0 _ rfl))).trans rfl)
theorem dk_101 {code : ByteArray} {pc : Nat} (h : DkAt code pc [101]) : decode code pc = .ok (.lsub, 1) := dk_of ((dk_bind (dk_u1 (h 0 _ rfl))).trans rfl)
theorem dk_104 {code : ByteArray} {pc : Nat} (h : DkAt code pc [104]) : decode code pc = .ok (.imul, 1) := dk_of ((dk_bind (dk_u1 (h 0 _ rfl))).trans rfl)
theorem dk_105 {code : ByteArray} {pc : Nat} (h : DkAt code pc [105]) : decode code pc = .ok (.lmul, 1) := dk_of ((dk_bind (dk_u1 (h 0 _ rfl))).trans rfl)
theorem dk_108 {code : ByteArray} {pc : Nat} (h : DkAt code pc [108]) : decode code pc = .ok (.idiv, 1) := dk_of ((dk_bind (dk_u1 (h 0 _ rfl))).trans rfl)
theorem dk_109 {code : ByteArray} {pc : Nat} (h : DkAt code pc [109]) : decode code pc = .ok (.ldiv, 1) := dk_of ((dk_bind (dk_u1 (h 0 _ rfl))).trans rfl)
theorem dk_112 {code : ByteArray} {pc : Nat} (h : DkAt code pc [112]) : decode code pc = .ok (.irem, 1) := dk_of ((dk_bind (dk_u1 (h 0 _ rfl))).trans rfl)
theorem dk_113 {code : ByteArray} {pc : Nat} (h : DkAt code pc [113]) : decode code pc = .ok (.lrem, 1) := dk_of ((dk_bind (dk_u1 (h 0 _ rfl))).trans rfl)
theorem dk_116 {code : ByteArray} {pc : Nat} (h : DkAt code pc [116]) : decode code pc = .ok (.ineg, 1) := dk_of ((dk_bind (dk_u1 (h 0 _ rfl))).trans rfl)
theorem dk_120 {code : ByteArray} {pc : Nat} (h : DkAt code pc [120]) : decode code pc = .ok (.ishl, 1) := dk_of ((dk_bind (dk_u1 (h 0 _ rfl))).trans rfl)
theorem dk_122 {code : ByteArray} {pc : Nat} (h : DkAt code pc [122]) : decode code pc = .ok (.ishr, 1) := dk_of ((dk_bind (dk_u1 (h 0 _ rfl))).trans rfl)
theorem dk_126 {code : ByteArray} {pc : Nat} (h : DkAt code pc [126]) : decode code pc = .ok (.iand, 1) := dk_of ((dk_bind (dk_u1 (h 0 _ rfl))).trans rfl)
theorem dk_128 {code : ByteArray} {pc : Nat} (h : DkAt code pc [128]) : decode code pc = .ok (.ior, 1) := dk_of ((dk_bind (dk_u1 (h 0 _ rfl))).trans rfl)
theorem dk_130 {code : ByteArray} {pc : Nat} (h : DkAt code pc [130]) : decode code pc = .ok (.ixor, 1) := dk_of ((dk_bind (dk_u1 (h 0 _ rfl))).trans rfl)
theorem dk_132 {code : ByteArray} {pc : Nat} (a b : UInt8) (h : DkAt code pc [132, a, b]) : decode code pc = .ok (.iinc a.toNat (Reader.signed 8 b.toNat), 3) := dk_of ((dk_bind (dk_u1 (h 0 _ rfl))).trans ((dk_bind (dk_u1 (h 1 _ rfl))).trans ((dk_bind (dk_map (dk_u1 (h 2 _ rfl)))).trans rfl)))
theorem dk_133 {code : ByteArray} {pc : Nat} (h : DkAt code pc [133]) : decode code pc = .ok (.i2l, 1) := dk_of ((dk_bind (dk_u1 (h 0 _ rfl))).trans rfl)
theorem dk_145 {code : ByteArray} {pc : Nat} (h : DkAt code pc [145]) : decode code pc = .ok (.i2b, 1) := dk_of ((dk_bind (dk_u1 (h 0 _ rfl))).trans rfl)
theorem dk_146 {code : ByteArray} {pc : Nat} (h : DkAt code pc [146]) : decode code pc = .ok (.i2c, 1) := dk_of ((dk_bind (dk_u1 (h 0 _ rfl))).trans rfl)
theorem dk_148 {code : ByteArray} {pc : Nat} (h : DkAt code pc [148]) : decode code pc = .ok (.lcmp, 1) := dk_of ((dk_bind (dk_u1 (h 0 _ rfl))).trans rfl)
theorem dk_153 {code : ByteArray} {pc : Nat} (a b : UInt8) (h : DkAt code pc [153, a, b]) : decode code pc = .ok (.ifCond .eq (Reader.signed 16 (a.toNat * 256 + b.toNat)), 3) := dk_of ((dk_bind (dk_u1 (h 0 _ rfl))).trans ((dk_bind (dk_map (dk_u2 (h 1 _ rfl) (h 2 _ rfl)))).trans rfl))
theorem dk_154 {code : ByteArray} {pc : Nat} (a b : UInt8) (h : DkAt code pc [154, a, b]) : decode code pc = .ok (.ifCond .ne (Reader.signed 16 (a.toNat * 256 + b.toNat)), 3) := dk_of ((dk_bind (dk_u1 (h 0 _ rfl))).trans ((dk_bind (dk_map (dk_u2 (h 1 _ rfl) (h 2 _ rfl)))).trans rfl))
theorem dk_155 {code : ByteArray} {pc : Nat} (a b : UInt8) (h : DkAt code pc [155, a, b]) : decode code pc = .ok (.ifCond .lt (Reader.signed 16 (a.toNat * 256 + b.toNat)), 3) := dk_of ((dk_bind (dk_u1 (h 0 _ rfl))).trans ((dk_bind (dk_map (dk_u2 (h 1 _ rfl) (h 2 _ rfl)))).trans rfl))
theorem dk_156 {code : ByteArray} {pc : Nat} (a b : UInt8) (h : DkAt code pc [156, a, b]) : decode code pc = .ok (.ifCond .ge (Reader.signed 16 (a.toNat * 256 + b.toNat)), 3) := dk_of ((dk_bind (dk_u1 (h 0 _ rfl))).trans ((dk_bind (dk_map (dk_u2 (h 1 _ rfl) (h 2 _ rfl)))).trans rfl))
theorem dk_157 {code : ByteArray} {pc : Nat} (a b : UInt8) (h : DkAt code pc [157, a, b]) : decode code pc = .ok (.ifCond .gt (Reader.signed 16 (a.toNat * 256 + b.toNat)), 3) := dk_of ((dk_bind (dk_u1 (h 0 _ rfl))).trans ((dk_bind (dk_map (dk_u2 (h 1 _ rfl) (h 2 _ rfl)))).trans rfl))
theorem dk_158 {code : ByteArray} {pc : Nat} (a b : UInt8) (h : DkAt code pc [158, a, b]) : decode code pc = .ok (.ifCond .le (Reader.signed 16 (a.toNat * 256 + b.toNat)), 3) := dk_of ((dk_bind (dk_u1 (h 0 _ rfl))).trans ((dk_bind (dk_map (dk_u2 (h 1 _ rfl) (h 2 _ rfl)))).trans rfl))
theorem dk_159 {code : ByteArray} {pc : Nat} (a b : UInt8) (h : DkAt code pc [159, a, b]) : decode code pc = .ok (.if_icmp .eq (Reader.signed 16 (a.toNat * 256 + b.toNat)), 3) := dk_of ((dk_bind (dk_u1 (h 0 _ rfl))).trans ((dk_bind (dk_map (dk_u2 (h 1 _ rfl) (h 2 _ rfl)))).trans rfl))
theorem dk_160 {code : ByteArray} {pc : Nat} (a b : UInt8) (h : DkAt code pc [160, a, b]) : decode code pc = .ok (.if_icmp .ne (Reader.signed 16 (a.toNat * 256 + b.toNat)), 3) := dk_of ((dk_bind (dk_u1 (h 0 _ rfl))).trans ((dk_bind (dk_map (dk_u2 (h 1 _ rfl) (h 2 _ rfl)))).trans rfl))
theorem dk_161 {code : ByteArray} {pc : Nat} (a b : UInt8) (h : DkAt code pc [161, a, b]) : decode code pc = .ok (.if_icmp .lt (Reader.signed 16 (a.toNat * 256 + b.toNat)), 3) := dk_of ((dk_bind (dk_u1 (h 0 _ rfl))).trans ((dk_bind (dk_map (dk_u2 (h 1 _ rfl) (h 2 _ rfl)))).trans rfl))
theorem dk_162 {code : ByteArray} {pc : Nat} (a b : UInt8) (h : DkAt code pc [162, a, b]) : decode code pc = .ok (.if_icmp .ge (Reader.signed 16 (a.toNat * 256 + b.toNat)), 3) := dk_of ((dk_bind (dk_u1 (h 0 _ rfl))).trans ((dk_bind (dk_map (dk_u2 (h 1 _ rfl) (h 2 _ rfl)))).trans rfl))
theorem dk_163 {code : ByteArray} {pc : Nat} (a b : UInt8) (h : DkAt code pc [163, a, b]) : decode code pc = .ok (.if_icmp .gt (Reader.signed 16 (a.toNat * 256 + b.toNat)), 3) := dk_of ((dk_bind (dk_u1 (h 0 _ rfl))).trans ((dk_bind (dk_map (dk_u2 (h 1 _ rfl) (h 2 _ rfl)))).trans rfl))
theorem dk_164 {code : ByteArray} {pc : Nat} (a b : UInt8) (h : DkAt code pc [164, a, b]) : decode code pc = .ok (.if_icmp .le (Reader.signed 16 (a.toNat * 256 + b.toNat)), 3) := dk_of ((dk_bind (dk_u1 (h 0 _ rfl))).trans ((dk_bind (dk_map (dk_u2 (h 1 _ rfl) (h 2 _ rfl)))).trans rfl))
theorem dk_167 {code : ByteArray} {pc : Nat} (a b : UInt8) (h : DkAt code pc [167, a, b]) : decode code pc = .ok (.goto (Reader.signed 16 (a.toNat * 256 + b.toNat)), 3) := dk_of ((dk_bind (dk_u1 (h 0 _ rfl))).trans ((dk_bind (dk_map (dk_u2 (h 1 _ rfl) (h 2 _ rfl)))).trans rfl))
theorem dk_172 {code : ByteArray} {pc : Nat} (h : DkAt code pc [172]) : decode code pc = .ok (.ireturn, 1) := dk_of ((dk_bind (dk_u1 (h 0 _ rfl))).trans rfl)
theorem dk_173 {code : ByteArray} {pc : Nat} (h : DkAt code pc [173]) : decode code pc = .ok (.lreturn, 1) := dk_of ((dk_bind (dk_u1 (h 0 _ rfl))).trans rfl)
theorem dk_176 {code : ByteArray} {pc : Nat} (h : DkAt code pc [176]) : decode code pc = .ok (.areturn, 1) := dk_of ((dk_bind (dk_u1 (h 0 _ rfl))).trans rfl)
theorem dk_177 {code : ByteArray} {pc : Nat} (h : DkAt code pc [177]) : decode code pc = .ok (.return_, 1) := dk_of ((dk_bind (dk_u1 (h 0 _ rfl))).trans rfl)
theorem dk_178 {code : ByteArray} {pc : Nat} (a b : UInt8) (h : DkAt code pc [178, a, b]) : decode code pc = .ok (.getstatic (a.toNat * 256 + b.toNat), 3) := dk_of ((dk_bind (dk_u1 (h 0 _ rfl))).trans ((dk_bind (dk_u2 (h 1 _ rfl) (h 2 _ rfl))).trans rfl))
theorem dk_180 {code : ByteArray} {pc : Nat} (a b : UInt8) (h : DkAt code pc [180, a, b]) : decode code pc = .ok (.getfield (a.toNat * 256 + b.toNat), 3) := dk_of ((dk_bind (dk_u1 (h 0 _ rfl))).trans ((dk_bind (dk_u2 (h 1 _ rfl) (h 2 _ rfl))).trans rfl))
theorem dk_181 {code : ByteArray} {pc : Nat} (a b : UInt8) (h : DkAt code pc [181, a, b]) : decode code pc = .ok (.putfield (a.toNat * 256 + b.toNat), 3) := dk_of ((dk_bind (dk_u1 (h 0 _ rfl))).trans ((dk_bind (dk_u2 (h 1 _ rfl) (h 2 _ rfl))).trans rfl))
theorem dk_182 {code : ByteArray} {pc : Nat} (a b : UInt8) (h : DkAt code pc [182, a, b]) : decode code pc = .ok (.invokevirtual (a.toNat * 256 + b.toNat), 3) := dk_of ((dk_bind (dk_u1 (h 0 _ rfl))).trans ((dk_bind (dk_u2 (h 1 _ rfl) (h 2 _ rfl))).trans rfl))
theorem dk_183 {code : ByteArray} {pc : Nat} (a b : UInt8) (h : DkAt code pc [183, a, b]) : decode code pc = .ok (.invokespecial (a.toNat * 256 + b.toNat), 3) := dk_of ((dk_bind (dk_u1 (h 0 _ rfl))).trans ((dk_bind (dk_u2 (h 1 _ rfl) (h 2 _ rfl))).trans rfl))
theorem dk_184 {code : ByteArray} {pc : Nat} (a b : UInt8) (h : DkAt code pc [184, a, b]) : decode code pc = .ok (.invokestatic (a.toNat * 256 + b.toNat), 3) := dk_of ((dk_bind (dk_u1 (h 0 _ rfl))).trans ((dk_bind (dk_u2 (h 1 _ rfl) (h 2 _ rfl))).trans rfl))
theorem dk_187 {code : ByteArray} {pc : Nat} (a b : UInt8) (h : DkAt code pc [187, a, b]) : decode code pc = .ok (.new (a.toNat * 256 + b.toNat), 3) := dk_of ((dk_bind (dk_u1 (h 0 _ rfl))).trans ((dk_bind (dk_u2 (h 1 _ rfl) (h 2 _ rfl))).trans rfl))
theorem dk_188_5 {code : ByteArray} {pc : Nat} (h : DkAt code pc [188, 5]) : decode code pc = .ok (.newarray .char, 2) := dk_of ((dk_bind (dk_u1 (h 0 _ rfl))).trans ((dk_bind (dk_u1 (h 1 _ rfl))).trans rfl))
theorem dk_188_8 {code : ByteArray} {pc : Nat} (h : DkAt code pc [188, 8]) : decode code pc = .ok (.newarray .byte, 2) := dk_of ((dk_bind (dk_u1 (h 0 _ rfl))).trans ((dk_bind (dk_u1 (h 1 _ rfl))).trans rfl))
theorem dk_188_10 {code : ByteArray} {pc : Nat} (h : DkAt code pc [188, 10]) : decode code pc = .ok (.newarray .int, 2) := dk_of ((dk_bind (dk_u1 (h 0 _ rfl))).trans ((dk_bind (dk_u1 (h 1 _ rfl))).trans rfl))
theorem dk_188_11 {code : ByteArray} {pc : Nat} (h : DkAt code pc [188, 11]) : decode code pc = .ok (.newarray .long, 2) := dk_of ((dk_bind (dk_u1 (h 0 _ rfl))).trans ((dk_bind (dk_u1 (h 1 _ rfl))).trans rfl))
theorem dk_189 {code : ByteArray} {pc : Nat} (a b : UInt8) (h : DkAt code pc [189, a, b]) : decode code pc = .ok (.anewarray (a.toNat * 256 + b.toNat), 3) := dk_of ((dk_bind (dk_u1 (h 0 _ rfl))).trans ((dk_bind (dk_u2 (h 1 _ rfl) (h 2 _ rfl))).trans rfl))
theorem dk_190 {code : ByteArray} {pc : Nat} (h : DkAt code pc [190]) : decode code pc = .ok (.arraylength, 1) := dk_of ((dk_bind (dk_u1 (h 0 _ rfl))).trans rfl)
theorem dk_191 {code : ByteArray} {pc : Nat} (h : DkAt code pc [191]) : decode code pc = .ok (.athrow, 1) := dk_of ((dk_bind (dk_u1 (h 0 _ rfl))).trans rfl)

theorem q122 : (Jvm.Cond.arrayOver (Jvm.ClassFile.FieldType.object "WithoutThem$Kind")) ∈ lw_tbl := lw_at lw_m1 42 rfl
set_option maxRecDepth 100000
theorem q169 : (Jvm.Cond.arrayOver (Jvm.ClassFile.FieldType.object "WithoutThem$Seeker")) ∈ lw_tbl := lw_at lw_m1 89 rfl
theorem q275 : (Jvm.Cond.arrayClass Jvm.ClassFile.FieldType.int) ∈ lw_all := lw_g (lw_at lw_m1 195 rfl) rfl
theorem q334 : (Jvm.Cond.arrayClass Jvm.ClassFile.FieldType.byte) ∈ lw_all := lw_g (lw_at lw_m2 14 rfl) rfl
theorem q335 : (Jvm.Cond.arrayClass Jvm.ClassFile.FieldType.char) ∈ lw_all := lw_g (lw_at lw_m2 15 rfl) rfl
theorem q336 : (Jvm.Cond.arrayClass Jvm.ClassFile.FieldType.long) ∈ lw_all := lw_g (lw_at lw_m2 16 rfl) rfl
theorem q453 : (Jvm.Cond.arrayOver (Jvm.ClassFile.FieldType.object "WithoutThem$Told")) ∈ lw_tbl := lw_at lw_m2 133 rfl

theorem q111 : (Jvm.Cond.initialized "java/lang/System") ∈ lw_all := lw_g (lw_at lw_m1 31 rfl) rfl
set_option maxRecDepth 100000
theorem q599 : (Jvm.Cond.static ({ cls := "java/lang/System", name := "arraycopy", desc := "(Ljava/lang/Object;ILjava/lang/Object;II)V" } : Jvm.MethodName)) ∈ lw_all := lw_g (lw_at lw_m3 39 rfl) rfl
theorem q600 : (Jvm.Cond.native ({ cls := "java/lang/System", name := "arraycopy", desc := "(Ljava/lang/Object;ILjava/lang/Object;II)V" } : Jvm.MethodName)) ∈ lw_all := lw_g (lw_at lw_m3 40 rfl) rfl

theorem q80 : (Jvm.Cond.initialized "WithoutThemLaw") ∈ lw_all := lw_g (lw_at lw_m1 0 rfl) rfl
set_option maxRecDepth 100000
theorem q113 : (Jvm.Cond.classLink "WithoutThemLaw" (7 : Nat) "WithoutThem") ∈ lw_all := lw_g (lw_at lw_m1 33 rfl) rfl
theorem q115 : (Jvm.Cond.methodLink "WithoutThemLaw" (9 : Nat) ({ cls := "WithoutThem", name := "<init>", desc := "()V" } : Jvm.MethodName)) ∈ lw_all := lw_g (lw_at lw_m1 35 rfl) rfl
theorem q337 : (Jvm.Cond.methodLink "WithoutThemLaw" (13 : Nat) ({ cls := "WithoutThem", name := "letter", desc := "(I)I" } : Jvm.MethodName)) ∈ lw_all := lw_g (lw_at lw_m2 17 rfl) rfl
theorem q945 : (Jvm.Cond.methodLink "WithoutThemLaw" (18 : Nat) ({ cls := "WithoutThem", name := "house", desc := "()I" } : Jvm.MethodName)) ∈ lw_all := lw_g (lw_at lw_m4 145 rfl) rfl
theorem q949 : (Jvm.Cond.methodLink "WithoutThemLaw" (23 : Nat) ({ cls := "WithoutThem", name := "thing", desc := "(II)I" } : Jvm.MethodName)) ∈ lw_all := lw_g (lw_at lw_m4 149 rfl) rfl
theorem q953 : (Jvm.Cond.methodLink "WithoutThemLaw" (28 : Nat) ({ cls := "WithoutThem", name := "need", desc := "(III)I" } : Jvm.MethodName)) ∈ lw_all := lw_g (lw_at lw_m4 153 rfl) rfl
theorem q957 : (Jvm.Cond.methodLink "WithoutThemLaw" (33 : Nat) ({ cls := "WithoutThem", name := "hand", desc := "(I)I" } : Jvm.MethodName)) ∈ lw_all := lw_g (lw_at lw_m4 157 rfl) rfl
theorem q961 : (Jvm.Cond.methodLink "WithoutThemLaw" (37 : Nat) ({ cls := "WithoutThem", name := "take", desc := "(I)I" } : Jvm.MethodName)) ∈ lw_all := lw_g (lw_at lw_m4 161 rfl) rfl
theorem q965 : (Jvm.Cond.methodLink "WithoutThemLaw" (41 : Nat) ({ cls := "WithoutThem", name := "may", desc := "()I" } : Jvm.MethodName)) ∈ lw_all := lw_g (lw_at lw_m4 165 rfl) rfl
theorem q969 : (Jvm.Cond.methodLink "WithoutThemLaw" (45 : Nat) ({ cls := "WithoutThem", name := "with", desc := "(I)I" } : Jvm.MethodName)) ∈ lw_all := lw_g (lw_at lw_m4 169 rfl) rfl
theorem q973 : (Jvm.Cond.methodLink "WithoutThemLaw" (49 : Nat) ({ cls := "WithoutThem", name := "reach", desc := "()I" } : Jvm.MethodName)) ∈ lw_all := lw_g (lw_at lw_m4 173 rfl) rfl
theorem q977 : (Jvm.Cond.methodLink "WithoutThemLaw" (53 : Nat) ({ cls := "WithoutThem", name := "soonest", desc := "(II)I" } : Jvm.MethodName)) ∈ lw_all := lw_g (lw_at lw_m4 177 rfl) rfl
theorem q981 : (Jvm.Cond.methodLink "WithoutThemLaw" (57 : Nat) ({ cls := "WithoutThem", name := "mean", desc := "(II)J" } : Jvm.MethodName)) ∈ lw_all := lw_g (lw_at lw_m4 181 rfl) rfl
theorem q1005 : (Jvm.Cond.methodLink "WithoutThemLaw" (62 : Nat) ({ cls := "WithoutThem", name := "surely", desc := "(I)J" } : Jvm.MethodName)) ∈ lw_all := lw_g (lw_at lw_m4 205 rfl) rfl
theorem q1018 : (Jvm.Cond.methodLink "WithoutThemLaw" (67 : Nat) ({ cls := "WithoutThem", name := "ringed", desc := "()I" } : Jvm.MethodName)) ∈ lw_all := lw_g (lw_at lw_m4 218 rfl) rfl
theorem q1022 : (Jvm.Cond.methodLink "WithoutThemLaw" (71 : Nat) ({ cls := "WithoutThem", name := "beg", desc := "(I)I" } : Jvm.MethodName)) ∈ lw_all := lw_g (lw_at lw_m4 222 rfl) rfl
theorem q1026 : (Jvm.Cond.methodLink "WithoutThemLaw" (75 : Nat) ({ cls := "WithoutThem", name := "nails", desc := "()I" } : Jvm.MethodName)) ∈ lw_all := lw_g (lw_at lw_m4 226 rfl) rfl
theorem q1030 : (Jvm.Cond.methodLink "WithoutThemLaw" (79 : Nat) ({ cls := "WithoutThem", name := "spare", desc := "()I" } : Jvm.MethodName)) ∈ lw_all := lw_g (lw_at lw_m4 230 rfl) rfl
theorem q1034 : (Jvm.Cond.methodLink "WithoutThemLaw" (83 : Nat) ({ cls := "WithoutThem", name := "does", desc := "(I)I" } : Jvm.MethodName)) ∈ lw_all := lw_g (lw_at lw_m4 234 rfl) rfl
theorem q1038 : (Jvm.Cond.methodLink "WithoutThemLaw" (87 : Nat) ({ cls := "WithoutThem", name := "ways", desc := "(I)I" } : Jvm.MethodName)) ∈ lw_all := lw_g (lw_at lw_m4 238 rfl) rfl
theorem q1042 : (Jvm.Cond.methodLink "WithoutThemLaw" (91 : Nat) ({ cls := "WithoutThem", name := "must", desc := "(I)I" } : Jvm.MethodName)) ∈ lw_all := lw_g (lw_at lw_m5 2 rfl) rfl
theorem q1046 : (Jvm.Cond.methodLink "WithoutThemLaw" (95 : Nat) ({ cls := "WithoutThem", name := "halfway", desc := "(II)I" } : Jvm.MethodName)) ∈ lw_all := lw_g (lw_at lw_m5 6 rfl) rfl
theorem q1050 : (Jvm.Cond.methodLink "WithoutThemLaw" (99 : Nat) ({ cls := "WithoutThem", name := "drawer", desc := "(III)J" } : Jvm.MethodName)) ∈ lw_all := lw_g (lw_at lw_m5 10 rfl) rfl
theorem q1059 : (Jvm.Cond.methodLink "WithoutThemLaw" (104 : Nat) ({ cls := "WithoutThem", name := "seeker", desc := "(II)I" } : Jvm.MethodName)) ∈ lw_all := lw_g (lw_at lw_m5 19 rfl) rfl
theorem q1063 : (Jvm.Cond.methodLink "WithoutThemLaw" (108 : Nat) ({ cls := "WithoutThem", name := "seeks", desc := "(I)I" } : Jvm.MethodName)) ∈ lw_all := lw_g (lw_at lw_m5 23 rfl) rfl
theorem q1067 : (Jvm.Cond.methodLink "WithoutThemLaw" (112 : Nat) ({ cls := "WithoutThem", name := "row", desc := "(I)I" } : Jvm.MethodName)) ∈ lw_all := lw_g (lw_at lw_m5 27 rfl) rfl
theorem q1071 : (Jvm.Cond.methodLink "WithoutThemLaw" (116 : Nat) ({ cls := "WithoutThem", name := "judge", desc := "()I" } : Jvm.MethodName)) ∈ lw_all := lw_g (lw_at lw_m5 31 rfl) rfl
theorem q1075 : (Jvm.Cond.methodLink "WithoutThemLaw" (120 : Nat) ({ cls := "WithoutThem", name := "lots", desc := "(II)I" } : Jvm.MethodName)) ∈ lw_all := lw_g (lw_at lw_m5 35 rfl) rfl
theorem q1079 : (Jvm.Cond.methodLink "WithoutThemLaw" (124 : Nat) ({ cls := "WithoutThem", name := "image", desc := "()I" } : Jvm.MethodName)) ∈ lw_all := lw_g (lw_at lw_m5 39 rfl) rfl
theorem q1083 : (Jvm.Cond.methodLink "WithoutThemLaw" (128 : Nat) ({ cls := "WithoutThem", name := "on", desc := "()I" } : Jvm.MethodName)) ∈ lw_all := lw_g (lw_at lw_m5 43 rfl) rfl
theorem q1087 : (Jvm.Cond.methodLink "WithoutThemLaw" (132 : Nat) ({ cls := "WithoutThem", name := "count", desc := "(I)I" } : Jvm.MethodName)) ∈ lw_all := lw_g (lw_at lw_m5 47 rfl) rfl
theorem q1093 : (Jvm.Cond.classLink "WithoutThemLaw" (10 : Nat) "WithoutThemModel") ∈ lw_all := lw_g (lw_at lw_m5 53 rfl) rfl
theorem q1095 : (Jvm.Cond.methodLink "WithoutThemLaw" (12 : Nat) ({ cls := "WithoutThemModel", name := "<init>", desc := "()V" } : Jvm.MethodName)) ∈ lw_all := lw_g (lw_at lw_m5 55 rfl) rfl
theorem q1178 : (Jvm.Cond.methodLink "WithoutThemLaw" (17 : Nat) ({ cls := "WithoutThemModel", name := "letter", desc := "(I)I" } : Jvm.MethodName)) ∈ lw_all := lw_g (lw_at lw_m5 138 rfl) rfl
theorem q1189 : (Jvm.Cond.methodLink "WithoutThemLaw" (22 : Nat) ({ cls := "WithoutThemModel", name := "house", desc := "()I" } : Jvm.MethodName)) ∈ lw_all := lw_g (lw_at lw_m5 149 rfl) rfl
theorem q1243 : (Jvm.Cond.methodLink "WithoutThemLaw" (127 : Nat) ({ cls := "WithoutThemModel", name := "image", desc := "()I" } : Jvm.MethodName)) ∈ lw_all := lw_g (lw_at lw_m5 203 rfl) rfl
theorem q1247 : (Jvm.Cond.methodLink "WithoutThemLaw" (131 : Nat) ({ cls := "WithoutThemModel", name := "on", desc := "()I" } : Jvm.MethodName)) ∈ lw_all := lw_g (lw_at lw_m5 207 rfl) rfl
theorem q1251 : (Jvm.Cond.methodLink "WithoutThemLaw" (27 : Nat) ({ cls := "WithoutThemModel", name := "thing", desc := "(II)I" } : Jvm.MethodName)) ∈ lw_all := lw_g (lw_at lw_m5 211 rfl) rfl
theorem q1265 : (Jvm.Cond.methodLink "WithoutThemLaw" (32 : Nat) ({ cls := "WithoutThemModel", name := "need", desc := "(III)I" } : Jvm.MethodName)) ∈ lw_all := lw_g (lw_at lw_m5 225 rfl) rfl
theorem q1269 : (Jvm.Cond.methodLink "WithoutThemLaw" (36 : Nat) ({ cls := "WithoutThemModel", name := "hand", desc := "(I)I" } : Jvm.MethodName)) ∈ lw_all := lw_g (lw_at lw_m5 229 rfl) rfl
theorem q1273 : (Jvm.Cond.methodLink "WithoutThemLaw" (40 : Nat) ({ cls := "WithoutThemModel", name := "take", desc := "(I)I" } : Jvm.MethodName)) ∈ lw_all := lw_g (lw_at lw_m5 233 rfl) rfl
theorem q1285 : (Jvm.Cond.methodLink "WithoutThemLaw" (44 : Nat) ({ cls := "WithoutThemModel", name := "may", desc := "()I" } : Jvm.MethodName)) ∈ lw_all := lw_g (lw_at lw_m6 5 rfl) rfl
theorem q1289 : (Jvm.Cond.methodLink "WithoutThemLaw" (48 : Nat) ({ cls := "WithoutThemModel", name := "with", desc := "(I)I" } : Jvm.MethodName)) ∈ lw_all := lw_g (lw_at lw_m6 9 rfl) rfl
theorem q1297 : (Jvm.Cond.methodLink "WithoutThemLaw" (52 : Nat) ({ cls := "WithoutThemModel", name := "reach", desc := "()I" } : Jvm.MethodName)) ∈ lw_all := lw_g (lw_at lw_m6 17 rfl) rfl
theorem q1305 : (Jvm.Cond.methodLink "WithoutThemLaw" (56 : Nat) ({ cls := "WithoutThemModel", name := "soonest", desc := "(II)I" } : Jvm.MethodName)) ∈ lw_all := lw_g (lw_at lw_m6 25 rfl) rfl
theorem q1322 : (Jvm.Cond.methodLink "WithoutThemLaw" (61 : Nat) ({ cls := "WithoutThemModel", name := "mean", desc := "(II)J" } : Jvm.MethodName)) ∈ lw_all := lw_g (lw_at lw_m6 42 rfl) rfl
theorem q1338 : (Jvm.Cond.methodLink "WithoutThemLaw" (66 : Nat) ({ cls := "WithoutThemModel", name := "surely", desc := "(I)J" } : Jvm.MethodName)) ∈ lw_all := lw_g (lw_at lw_m6 58 rfl) rfl
theorem q1343 : (Jvm.Cond.methodLink "WithoutThemLaw" (70 : Nat) ({ cls := "WithoutThemModel", name := "ringed", desc := "()I" } : Jvm.MethodName)) ∈ lw_all := lw_g (lw_at lw_m6 63 rfl) rfl
theorem q1351 : (Jvm.Cond.methodLink "WithoutThemLaw" (74 : Nat) ({ cls := "WithoutThemModel", name := "beg", desc := "(I)I" } : Jvm.MethodName)) ∈ lw_all := lw_g (lw_at lw_m6 71 rfl) rfl
theorem q1359 : (Jvm.Cond.methodLink "WithoutThemLaw" (78 : Nat) ({ cls := "WithoutThemModel", name := "nails", desc := "()I" } : Jvm.MethodName)) ∈ lw_all := lw_g (lw_at lw_m6 79 rfl) rfl
theorem q1363 : (Jvm.Cond.methodLink "WithoutThemLaw" (82 : Nat) ({ cls := "WithoutThemModel", name := "spare", desc := "()I" } : Jvm.MethodName)) ∈ lw_all := lw_g (lw_at lw_m6 83 rfl) rfl
theorem q1367 : (Jvm.Cond.methodLink "WithoutThemLaw" (86 : Nat) ({ cls := "WithoutThemModel", name := "does", desc := "(I)I" } : Jvm.MethodName)) ∈ lw_all := lw_g (lw_at lw_m6 87 rfl) rfl
theorem q1371 : (Jvm.Cond.methodLink "WithoutThemLaw" (90 : Nat) ({ cls := "WithoutThemModel", name := "ways", desc := "(I)I" } : Jvm.MethodName)) ∈ lw_all := lw_g (lw_at lw_m6 91 rfl) rfl
theorem q1387 : (Jvm.Cond.methodLink "WithoutThemLaw" (94 : Nat) ({ cls := "WithoutThemModel", name := "must", desc := "(I)I" } : Jvm.MethodName)) ∈ lw_all := lw_g (lw_at lw_m6 107 rfl) rfl
theorem q1391 : (Jvm.Cond.methodLink "WithoutThemLaw" (98 : Nat) ({ cls := "WithoutThemModel", name := "halfway", desc := "(II)I" } : Jvm.MethodName)) ∈ lw_all := lw_g (lw_at lw_m6 111 rfl) rfl
theorem q1395 : (Jvm.Cond.methodLink "WithoutThemLaw" (103 : Nat) ({ cls := "WithoutThemModel", name := "drawer", desc := "(III)J" } : Jvm.MethodName)) ∈ lw_all := lw_g (lw_at lw_m6 115 rfl) rfl
theorem q1400 : (Jvm.Cond.methodLink "WithoutThemLaw" (107 : Nat) ({ cls := "WithoutThemModel", name := "seeker", desc := "(II)I" } : Jvm.MethodName)) ∈ lw_all := lw_g (lw_at lw_m6 120 rfl) rfl
theorem q1412 : (Jvm.Cond.methodLink "WithoutThemLaw" (111 : Nat) ({ cls := "WithoutThemModel", name := "seeks", desc := "(I)I" } : Jvm.MethodName)) ∈ lw_all := lw_g (lw_at lw_m6 132 rfl) rfl
theorem q1416 : (Jvm.Cond.methodLink "WithoutThemLaw" (115 : Nat) ({ cls := "WithoutThemModel", name := "row", desc := "(I)I" } : Jvm.MethodName)) ∈ lw_all := lw_g (lw_at lw_m6 136 rfl) rfl
theorem q1420 : (Jvm.Cond.methodLink "WithoutThemLaw" (119 : Nat) ({ cls := "WithoutThemModel", name := "judge", desc := "()I" } : Jvm.MethodName)) ∈ lw_all := lw_g (lw_at lw_m6 140 rfl) rfl
theorem q1424 : (Jvm.Cond.methodLink "WithoutThemLaw" (123 : Nat) ({ cls := "WithoutThemModel", name := "lots", desc := "(II)I" } : Jvm.MethodName)) ∈ lw_all := lw_g (lw_at lw_m6 144 rfl) rfl
theorem q1431 : (Jvm.Cond.methodLink "WithoutThemLaw" (135 : Nat) ({ cls := "WithoutThemModel", name := "count", desc := "(I)I" } : Jvm.MethodName)) ∈ lw_all := lw_g (lw_at lw_m6 151 rfl) rfl

/-! java/lang/Throwable -/
set_option maxRecDepth 100000
def RJ0 : String := "java/lang/Throwable"
def TJ0 : u_T := fun k => match k with
  | 0 => ("java/lang/Throwable", "cause", "Ljava/lang/Throwable;", false)
  | 1 => ("java/lang/Throwable", "stackTrace", "[Ljava/lang/StackTraceElement;", false)
  | 2 => ("java/lang/Throwable", "suppressedExceptions", "Ljava/util/List;", false)
  | 3 => ("java/lang/Throwable", "detailMessage", "Ljava/lang/String;", false)
  | _ => ("java/lang/Throwable", "backtrace", "Ljava/lang/Object;", false)
def tyJ0 : Nat → FieldType := fun k => match k with
  | 0 => .object "java/lang/Throwable"
  | 1 => .array (.object "java/lang/StackTraceElement")
  | 2 => .object "java/util/List"
  | 3 => .object "java/lang/String"
  | _ => .object "java/lang/Object"
abbrev wsJ00 : List Cond := u_ws RJ0 TJ0 5
theorem nmJ0 : ∀ a, a < 5 → ∀ b, b < 5 → a ≠ b → (TJ0 a).2.1 ≠ (TJ0 b).2.1 := by decide +kernel
theorem tyJ0_ok : ∀ k, k < 5 → parseFieldDescriptor (TJ0 k).2.2.1 = some (tyJ0 k) := by decide +kernel
abbrev cJ0_init : ByteArray := prog_33_method_1_code
def yJ0_init : MethodName := ⟨RJ0, "<init>", "()V"⟩
def dkwJ0_init_1 : List UInt8 := [182, 0, 27, 87, 177]
abbrev dktJ0_init_1 : List UInt8 := dkwJ0_init_1 ++ []
def dkwJ0_init_0 : List UInt8 := [42, 183, 0, 1, 42, 42, 181, 0, 7, 42, 178, 0, 13, 181, 0, 17, 42, 178, 0, 20, 181, 0, 24, 42]
abbrev dktJ0_init_0 : List UInt8 := dkwJ0_init_0 ++ dktJ0_init_1
theorem dksJ0_init_0 : cJ0_init.data.toList.drop 0 = dktJ0_init_0 := by decide +kernel
theorem dksJ0_init_1 : cJ0_init.data.toList.drop 24 = dktJ0_init_1 := dk_seg dksJ0_init_0 24 rfl rfl
theorem dJ0_init_0 : decode cJ0_init 0 = .ok (.aload_n 0, 1) := dk_42 (dk_at dksJ0_init_0 0 rfl rfl)
theorem dJ0_init_1 : decode cJ0_init 1 = .ok (.invokespecial 1, 3) := dk_183 0 1 (dk_at dksJ0_init_0 1 rfl rfl)
theorem dJ0_init_4 : decode cJ0_init 4 = .ok (.aload_n 0, 1) := dk_42 (dk_at dksJ0_init_0 4 rfl rfl)
theorem dJ0_init_5 : decode cJ0_init 5 = .ok (.aload_n 0, 1) := dk_42 (dk_at dksJ0_init_0 5 rfl rfl)
theorem dJ0_init_6 : decode cJ0_init 6 = .ok (.putfield 7, 3) := dk_181 0 7 (dk_at dksJ0_init_0 6 rfl rfl)
theorem dJ0_init_9 : decode cJ0_init 9 = .ok (.aload_n 0, 1) := dk_42 (dk_at dksJ0_init_0 9 rfl rfl)
theorem dJ0_init_10 : decode cJ0_init 10 = .ok (.getstatic 13, 3) := dk_178 0 13 (dk_at dksJ0_init_0 10 rfl rfl)
theorem dJ0_init_13 : decode cJ0_init 13 = .ok (.putfield 17, 3) := dk_181 0 17 (dk_at dksJ0_init_0 13 rfl rfl)
theorem dJ0_init_16 : decode cJ0_init 16 = .ok (.aload_n 0, 1) := dk_42 (dk_at dksJ0_init_0 16 rfl rfl)
theorem dJ0_init_17 : decode cJ0_init 17 = .ok (.getstatic 20, 3) := dk_178 0 20 (dk_at dksJ0_init_0 17 rfl rfl)
theorem dJ0_init_20 : decode cJ0_init 20 = .ok (.putfield 24, 3) := dk_181 0 24 (dk_at dksJ0_init_0 20 rfl rfl)
theorem dJ0_init_23 : decode cJ0_init 23 = .ok (.aload_n 0, 1) := dk_42 (dk_at dksJ0_init_0 23 rfl rfl)
theorem dJ0_init_24 : decode cJ0_init 24 = .ok (.invokevirtual 27, 3) := dk_182 0 27 (dk_at dksJ0_init_1 0 rfl rfl)
theorem dJ0_init_27 : decode cJ0_init 27 = .ok (.pop, 1) := dk_87 (dk_at dksJ0_init_1 3 rfl rfl)
theorem dJ0_init_28 : decode cJ0_init 28 = .ok (.return_, 1) := dk_177 (dk_at dksJ0_init_1 4 rfl rfl)
theorem q98 : (Jvm.Cond.initialized "java/lang/Throwable") ∈ lw_all := lw_g (lw_at lw_m1 18 rfl) rfl
theorem q369 : (Jvm.Cond.declares ({ cls := "java/lang/Throwable", name := "<init>", desc := "()V" } : Jvm.MethodName)) ∈ lw_tbl := lw_at lw_m2 49 rfl
theorem q370 : (Jvm.Cond.declares ({ cls := "java/lang/Throwable", name := "<init>", desc := "(Ljava/lang/String;)V" } : Jvm.MethodName)) ∈ lw_tbl := lw_at lw_m2 50 rfl
theorem q374 : (Jvm.Cond.lays "java/lang/Throwable" "java/lang/Throwable" "cause" "Ljava/lang/Throwable;") ∈ lw_all := lw_g (lw_at lw_m2 54 rfl) rfl
theorem q376 : (Jvm.Cond.lays "java/lang/Throwable" "java/lang/Throwable" "stackTrace" "[Ljava/lang/StackTraceElement;") ∈ lw_all := lw_g (lw_at lw_m2 56 rfl) rfl
theorem q378 : (Jvm.Cond.lays "java/lang/Throwable" "java/lang/Throwable" "suppressedExceptions" "Ljava/util/List;") ∈ lw_all := lw_g (lw_at lw_m2 58 rfl) rfl
theorem q380 : (Jvm.Cond.lays "java/lang/Throwable" "java/lang/Throwable" "detailMessage" "Ljava/lang/String;") ∈ lw_all := lw_g (lw_at lw_m2 60 rfl) rfl
theorem q382 : (Jvm.Cond.lays "java/lang/Throwable" "java/lang/Throwable" "backtrace" "Ljava/lang/Object;") ∈ lw_all := lw_g (lw_at lw_m2 62 rfl) rfl
theorem q383 : (Jvm.Cond.fieldLink "java/lang/Throwable" (198 : Nat) "java/lang/Throwable" "backtrace" "Ljava/lang/Object;") ∈ lw_all := lw_g (lw_at lw_m2 63 rfl) rfl
theorem q384 : (Jvm.Cond.superclass "java/lang/Throwable" "java/lang/Object") ∈ lw_all := lw_g (lw_at lw_m2 64 rfl) rfl
theorem q385 : (Jvm.Cond.instanceMethod ({ cls := "java/lang/Throwable", name := "<init>", desc := "()V" } : Jvm.MethodName)) ∈ lw_all := lw_g (lw_at lw_m2 65 rfl) rfl
theorem q386 : (Jvm.Cond.code ({ cls := "java/lang/Throwable", name := "<init>", desc := "()V" } : Jvm.MethodName) prog_33_method_1_code (1 : Nat) (Option.none : Option Jvm.ClassFile.FieldType)) ∈ lw_all := lw_g (lw_at lw_m2 66 rfl) rfl
theorem q387 : (Jvm.Cond.methodLink "java/lang/Throwable" (1 : Nat) ({ cls := "java/lang/Object", name := "<init>", desc := "()V" } : Jvm.MethodName)) ∈ lw_all := lw_g (lw_at lw_m2 67 rfl) rfl
theorem q388 : (Jvm.Cond.fieldLink "java/lang/Throwable" (13 : Nat) "java/lang/Throwable" "UNASSIGNED_STACK" "[Ljava/lang/StackTraceElement;") ∈ lw_all := lw_g (lw_at lw_m2 68 rfl) rfl
theorem q389 : (Jvm.Cond.laysStatic "java/lang/Throwable" "UNASSIGNED_STACK" "[Ljava/lang/StackTraceElement;") ∈ lw_tbl := lw_at lw_m2 69 rfl
theorem q390 : (Jvm.Cond.fieldLink "java/lang/Throwable" (20 : Nat) "java/lang/Throwable" "SUPPRESSED_SENTINEL" "Ljava/util/List;") ∈ lw_all := lw_g (lw_at lw_m2 70 rfl) rfl
theorem q391 : (Jvm.Cond.laysStatic "java/lang/Throwable" "SUPPRESSED_SENTINEL" "Ljava/util/List;") ∈ lw_tbl := lw_at lw_m2 71 rfl
theorem q392 : (Jvm.Cond.methodLink "java/lang/Throwable" (27 : Nat) ({ cls := "java/lang/Throwable", name := "fillInStackTrace", desc := "()Ljava/lang/Throwable;" } : Jvm.MethodName)) ∈ lw_all := lw_g (lw_at lw_m2 72 rfl) rfl
theorem q393 : (Jvm.Cond.instanceMethod ({ cls := "java/lang/Throwable", name := "fillInStackTrace", desc := "()Ljava/lang/Throwable;" } : Jvm.MethodName)) ∈ lw_all := lw_g (lw_at lw_m2 73 rfl) rfl
theorem q394 : (Jvm.Cond.sameMethod "java/lang/Throwable" "java/lang/Throwable" "fillInStackTrace" "()Ljava/lang/Throwable;") ∈ lw_all := lw_g (lw_at lw_m2 74 rfl) rfl
theorem q396 : (Jvm.Cond.codeSync ({ cls := "java/lang/Throwable", name := "fillInStackTrace", desc := "()Ljava/lang/Throwable;" } : Jvm.MethodName) prog_33_method_18_code (1 : Nat) (Option.some (Jvm.ClassFile.FieldType.object "java/lang/Throwable"))) ∈ lw_all := lw_g (lw_at lw_m2 76 rfl) rfl
theorem q397 : (Jvm.Cond.methodLink "java/lang/Throwable" (202 : Nat) ({ cls := "java/lang/Throwable", name := "fillInStackTrace", desc := "(I)Ljava/lang/Throwable;" } : Jvm.MethodName)) ∈ lw_all := lw_g (lw_at lw_m2 77 rfl) rfl
theorem q398 : (Jvm.Cond.privateMethod ({ cls := "java/lang/Throwable", name := "fillInStackTrace", desc := "(I)Ljava/lang/Throwable;" } : Jvm.MethodName)) ∈ lw_tbl := lw_at lw_m2 78 rfl
theorem q399 : (Jvm.Cond.instanceMethod ({ cls := "java/lang/Throwable", name := "fillInStackTrace", desc := "(I)Ljava/lang/Throwable;" } : Jvm.MethodName)) ∈ lw_all := lw_g (lw_at lw_m2 79 rfl) rfl
theorem q400 : (Jvm.Cond.instantiable "java/lang/Throwable" (6 : Nat)) ∈ lw_all := lw_g (lw_at lw_m2 80 rfl) rfl
theorem q401 : (Jvm.Cond.native ({ cls := "java/lang/Throwable", name := "fillInStackTrace", desc := "(I)Ljava/lang/Throwable;" } : Jvm.MethodName)) ∈ lw_all := lw_g (lw_at lw_m2 81 rfl) rfl
theorem q416 : (Jvm.Cond.fieldLink "java/lang/Throwable" (198 : Nat) "java/lang/Throwable" "backtrace" "Ljava/lang/Object;") ∈ lw_all := lw_g (lw_at lw_m2 96 rfl) rfl
theorem q417 : (Jvm.Cond.fieldLink "java/lang/Throwable" (7 : Nat) "java/lang/Throwable" "cause" "Ljava/lang/Throwable;") ∈ lw_all := lw_g (lw_at lw_m2 97 rfl) rfl
theorem q418 : (Jvm.Cond.fieldLink "java/lang/Throwable" (17 : Nat) "java/lang/Throwable" "stackTrace" "[Ljava/lang/StackTraceElement;") ∈ lw_all := lw_g (lw_at lw_m2 98 rfl) rfl
theorem q419 : (Jvm.Cond.fieldLink "java/lang/Throwable" (24 : Nat) "java/lang/Throwable" "suppressedExceptions" "Ljava/util/List;") ∈ lw_all := lw_g (lw_at lw_m2 99 rfl) rfl
theorem q422 : (Jvm.Cond.soleField "java/lang/Throwable" "backtrace") ∈ lw_all := lw_g (lw_at lw_m2 102 rfl) rfl
theorem q423 : (Jvm.Cond.soleField "java/lang/Throwable" "detailMessage") ∈ lw_all := lw_g (lw_at lw_m2 103 rfl) rfl
theorem q424 : (Jvm.Cond.soleField "java/lang/Throwable" "cause") ∈ lw_all := lw_g (lw_at lw_m2 104 rfl) rfl
theorem q425 : (Jvm.Cond.soleField "java/lang/Throwable" "stackTrace") ∈ lw_all := lw_g (lw_at lw_m2 105 rfl) rfl
theorem q427 : (Jvm.Cond.soleField "java/lang/Throwable" "depth") ∈ lw_all := lw_g (lw_at lw_m2 107 rfl) rfl
theorem q428 : (Jvm.Cond.soleField "java/lang/Throwable" "suppressedExceptions") ∈ lw_all := lw_g (lw_at lw_m2 108 rfl) rfl
theorem q1435 : (Jvm.Cond.sameMethod "java/lang/Throwable" "java/lang/Throwable" "fillInStackTrace" "(I)Ljava/lang/Throwable;") ∈ lw_all := lw_g (lw_at lw_m6 155 rfl) rfl
theorem in_J0 : ∀ w ∈ wsJ00, w ∈ lw_all := lw_in wsJ00 [374, 376, 378, 380, 382] (by decide +kernel) (by decide +kernel)

/-! java/lang/Exception -/
set_option maxRecDepth 100000
def RJ1 : String := "java/lang/Exception"
abbrev cJ1_init : ByteArray := prog_29_method_1_code
def yJ1_init : MethodName := ⟨RJ1, "<init>", "()V"⟩
theorem dJ1_init_0 : decode cJ1_init 0 = .ok (.aload_n 0, 1) := by decide +kernel
theorem dJ1_init_1 : decode cJ1_init 1 = .ok (.invokespecial 1, 3) := by decide +kernel
theorem dJ1_init_4 : decode cJ1_init 4 = .ok (.return_, 1) := by decide +kernel
theorem q99 : (Jvm.Cond.initialized "java/lang/Exception") ∈ lw_all := lw_g (lw_at lw_m1 19 rfl) rfl
theorem q367 : (Jvm.Cond.declares ({ cls := "java/lang/Exception", name := "<init>", desc := "()V" } : Jvm.MethodName)) ∈ lw_tbl := lw_at lw_m2 47 rfl
theorem q368 : (Jvm.Cond.declares ({ cls := "java/lang/Exception", name := "<init>", desc := "(Ljava/lang/String;)V" } : Jvm.MethodName)) ∈ lw_tbl := lw_at lw_m2 48 rfl
theorem q412 : (Jvm.Cond.instanceMethod ({ cls := "java/lang/Exception", name := "<init>", desc := "()V" } : Jvm.MethodName)) ∈ lw_all := lw_g (lw_at lw_m2 92 rfl) rfl
theorem q413 : (Jvm.Cond.code ({ cls := "java/lang/Exception", name := "<init>", desc := "()V" } : Jvm.MethodName) prog_29_method_1_code (1 : Nat) (Option.none : Option Jvm.ClassFile.FieldType)) ∈ lw_all := lw_g (lw_at lw_m2 93 rfl) rfl
theorem q414 : (Jvm.Cond.methodLink "java/lang/Exception" (1 : Nat) ({ cls := "java/lang/Throwable", name := "<init>", desc := "()V" } : Jvm.MethodName)) ∈ lw_all := lw_g (lw_at lw_m2 94 rfl) rfl

/-! java/lang/RuntimeException -/
set_option maxRecDepth 100000
def RJ2 : String := "java/lang/RuntimeException"
abbrev cJ2_init : ByteArray := prog_31_method_1_code
def yJ2_init : MethodName := ⟨RJ2, "<init>", "()V"⟩
theorem dJ2_init_0 : decode cJ2_init 0 = .ok (.aload_n 0, 1) := by decide +kernel
theorem dJ2_init_1 : decode cJ2_init 1 = .ok (.invokespecial 1, 3) := by decide +kernel
theorem dJ2_init_4 : decode cJ2_init 4 = .ok (.return_, 1) := by decide +kernel
theorem q100 : (Jvm.Cond.initialized "java/lang/RuntimeException") ∈ lw_all := lw_g (lw_at lw_m1 20 rfl) rfl
theorem q365 : (Jvm.Cond.declares ({ cls := "java/lang/RuntimeException", name := "<init>", desc := "()V" } : Jvm.MethodName)) ∈ lw_tbl := lw_at lw_m2 45 rfl
theorem q366 : (Jvm.Cond.declares ({ cls := "java/lang/RuntimeException", name := "<init>", desc := "(Ljava/lang/String;)V" } : Jvm.MethodName)) ∈ lw_tbl := lw_at lw_m2 46 rfl
theorem q409 : (Jvm.Cond.instanceMethod ({ cls := "java/lang/RuntimeException", name := "<init>", desc := "()V" } : Jvm.MethodName)) ∈ lw_all := lw_g (lw_at lw_m2 89 rfl) rfl
theorem q410 : (Jvm.Cond.code ({ cls := "java/lang/RuntimeException", name := "<init>", desc := "()V" } : Jvm.MethodName) prog_31_method_1_code (1 : Nat) (Option.none : Option Jvm.ClassFile.FieldType)) ∈ lw_all := lw_g (lw_at lw_m2 90 rfl) rfl
theorem q411 : (Jvm.Cond.methodLink "java/lang/RuntimeException" (1 : Nat) ({ cls := "java/lang/Exception", name := "<init>", desc := "()V" } : Jvm.MethodName)) ∈ lw_all := lw_g (lw_at lw_m2 91 rfl) rfl

/-! java/lang/Math -/
set_option maxRecDepth 100000
def RJ3 : String := "java/lang/Math"
abbrev cJ3_min : ByteArray := prog_30_method_69_code
def yJ3_min : MethodName := ⟨RJ3, "min", "(II)I"⟩
def dkwJ3_min_0 : List UInt8 := [26, 27, 163, 0, 7, 26, 167, 0, 4, 27, 172]
abbrev dktJ3_min_0 : List UInt8 := dkwJ3_min_0 ++ []
theorem dksJ3_min_0 : cJ3_min.data.toList.drop 0 = dktJ3_min_0 := by decide +kernel
theorem dJ3_min_0 : decode cJ3_min 0 = .ok (.iload_n 0, 1) := dk_26 (dk_at dksJ3_min_0 0 rfl rfl)
theorem dJ3_min_1 : decode cJ3_min 1 = .ok (.iload_n 1, 1) := dk_27 (dk_at dksJ3_min_0 1 rfl rfl)
theorem dJ3_min_2 : decode cJ3_min 2 = .ok (.if_icmp .gt 7, 3) := dk_163 0 7 (dk_at dksJ3_min_0 2 rfl rfl)
theorem dJ3_min_5 : decode cJ3_min 5 = .ok (.iload_n 0, 1) := dk_26 (dk_at dksJ3_min_0 5 rfl rfl)
theorem dJ3_min_6 : decode cJ3_min 6 = .ok (.goto 4, 3) := dk_167 0 4 (dk_at dksJ3_min_0 6 rfl rfl)
theorem dJ3_min_9 : decode cJ3_min 9 = .ok (.iload_n 1, 1) := dk_27 (dk_at dksJ3_min_0 9 rfl rfl)
theorem dJ3_min_10 : decode cJ3_min 10 = .ok (.ireturn, 1) := dk_172 (dk_at dksJ3_min_0 10 rfl rfl)
abbrev cJ3_min_2 : ByteArray := prog_30_method_70_code
def yJ3_min_2 : MethodName := ⟨RJ3, "min", "(JJ)J"⟩
def dkwJ3_min_2_0 : List UInt8 := [30, 32, 148, 157, 0, 7, 30, 167, 0, 4, 32, 173]
abbrev dktJ3_min_2_0 : List UInt8 := dkwJ3_min_2_0 ++ []
theorem dksJ3_min_2_0 : cJ3_min_2.data.toList.drop 0 = dktJ3_min_2_0 := by decide +kernel
theorem dJ3_min_2_0 : decode cJ3_min_2 0 = .ok (.lload_n 0, 1) := dk_30 (dk_at dksJ3_min_2_0 0 rfl rfl)
theorem dJ3_min_2_1 : decode cJ3_min_2 1 = .ok (.lload_n 2, 1) := dk_32 (dk_at dksJ3_min_2_0 1 rfl rfl)
theorem dJ3_min_2_2 : decode cJ3_min_2 2 = .ok (.lcmp, 1) := dk_148 (dk_at dksJ3_min_2_0 2 rfl rfl)
theorem dJ3_min_2_3 : decode cJ3_min_2 3 = .ok (.ifCond .gt 7, 3) := dk_157 0 7 (dk_at dksJ3_min_2_0 3 rfl rfl)
theorem dJ3_min_2_6 : decode cJ3_min_2 6 = .ok (.lload_n 0, 1) := dk_30 (dk_at dksJ3_min_2_0 6 rfl rfl)
theorem dJ3_min_2_7 : decode cJ3_min_2 7 = .ok (.goto 4, 3) := dk_167 0 4 (dk_at dksJ3_min_2_0 7 rfl rfl)
theorem dJ3_min_2_10 : decode cJ3_min_2 10 = .ok (.lload_n 2, 1) := dk_32 (dk_at dksJ3_min_2_0 10 rfl rfl)
theorem dJ3_min_2_11 : decode cJ3_min_2 11 = .ok (.lreturn, 1) := dk_173 (dk_at dksJ3_min_2_0 11 rfl rfl)
abbrev cJ3_max : ByteArray := prog_30_method_65_code
def yJ3_max : MethodName := ⟨RJ3, "max", "(II)I"⟩
def dkwJ3_max_0 : List UInt8 := [26, 27, 161, 0, 7, 26, 167, 0, 4, 27, 172]
abbrev dktJ3_max_0 : List UInt8 := dkwJ3_max_0 ++ []
theorem dksJ3_max_0 : cJ3_max.data.toList.drop 0 = dktJ3_max_0 := by decide +kernel
theorem dJ3_max_0 : decode cJ3_max 0 = .ok (.iload_n 0, 1) := dk_26 (dk_at dksJ3_max_0 0 rfl rfl)
theorem dJ3_max_1 : decode cJ3_max 1 = .ok (.iload_n 1, 1) := dk_27 (dk_at dksJ3_max_0 1 rfl rfl)
theorem dJ3_max_2 : decode cJ3_max 2 = .ok (.if_icmp .lt 7, 3) := dk_161 0 7 (dk_at dksJ3_max_0 2 rfl rfl)
theorem dJ3_max_5 : decode cJ3_max 5 = .ok (.iload_n 0, 1) := dk_26 (dk_at dksJ3_max_0 5 rfl rfl)
theorem dJ3_max_6 : decode cJ3_max 6 = .ok (.goto 4, 3) := dk_167 0 4 (dk_at dksJ3_max_0 6 rfl rfl)
theorem dJ3_max_9 : decode cJ3_max 9 = .ok (.iload_n 1, 1) := dk_27 (dk_at dksJ3_max_0 9 rfl rfl)
theorem dJ3_max_10 : decode cJ3_max 10 = .ok (.ireturn, 1) := dk_172 (dk_at dksJ3_max_0 10 rfl rfl)
theorem q112 : (Jvm.Cond.initialized "java/lang/Math") ∈ lw_all := lw_g (lw_at lw_m1 32 rfl) rfl
theorem q741 : (Jvm.Cond.static ({ cls := "java/lang/Math", name := "min", desc := "(II)I" } : Jvm.MethodName)) ∈ lw_all := lw_g (lw_at lw_m3 181 rfl) rfl
theorem q742 : (Jvm.Cond.code ({ cls := "java/lang/Math", name := "min", desc := "(II)I" } : Jvm.MethodName) prog_30_method_69_code (2 : Nat) (Option.some Jvm.ClassFile.FieldType.int)) ∈ lw_all := lw_g (lw_at lw_m3 182 rfl) rfl
theorem q799 : (Jvm.Cond.static ({ cls := "java/lang/Math", name := "min", desc := "(JJ)J" } : Jvm.MethodName)) ∈ lw_all := lw_g (lw_at lw_m3 239 rfl) rfl
theorem q800 : (Jvm.Cond.code ({ cls := "java/lang/Math", name := "min", desc := "(JJ)J" } : Jvm.MethodName) prog_30_method_70_code (4 : Nat) (Option.some Jvm.ClassFile.FieldType.long)) ∈ lw_all := lw_g (lw_at lw_m4 0 rfl) rfl
theorem q836 : (Jvm.Cond.static ({ cls := "java/lang/Math", name := "max", desc := "(II)I" } : Jvm.MethodName)) ∈ lw_all := lw_g (lw_at lw_m4 36 rfl) rfl
theorem q837 : (Jvm.Cond.code ({ cls := "java/lang/Math", name := "max", desc := "(II)I" } : Jvm.MethodName) prog_30_method_65_code (2 : Nat) (Option.some Jvm.ClassFile.FieldType.int)) ∈ lw_all := lw_g (lw_at lw_m4 37 rfl) rfl

/-! java/lang/Object -/
set_option maxRecDepth 100000
def RJ4 : String := "java/lang/Object"
abbrev cJ4_init : ByteArray := object_method_1_code
def yJ4_init : MethodName := ⟨RJ4, "<init>", "()V"⟩
theorem dJ4_init_0 : decode cJ4_init 0 = .ok (.return_, 1) := by decide +kernel
theorem q119 : (Jvm.Cond.instanceMethod ({ cls := "java/lang/Object", name := "<init>", desc := "()V" } : Jvm.MethodName)) ∈ lw_all := lw_g (lw_at lw_m1 39 rfl) rfl
theorem q120 : (Jvm.Cond.code ({ cls := "java/lang/Object", name := "<init>", desc := "()V" } : Jvm.MethodName) object_method_1_code (1 : Nat) (Option.none : Option Jvm.ClassFile.FieldType)) ∈ lw_all := lw_g (lw_at lw_m1 40 rfl) rfl

/-! WithoutThem$Kind -/
set_option maxRecDepth 100000
def RX1 : String := "WithoutThem$Kind"
abbrev cX1_init : ByteArray := prog_11_method_1_code
def yX1_init : MethodName := ⟨RX1, "<init>", "()V"⟩
theorem dX1_init_0 : decode cX1_init 0 = .ok (.aload_n 0, 1) := by decide +kernel
theorem dX1_init_1 : decode cX1_init 1 = .ok (.invokespecial 1, 3) := by decide +kernel
theorem dX1_init_4 : decode cX1_init 4 = .ok (.return_, 1) := by decide +kernel
abbrev cX1_minutes : ByteArray := prog_11_method_4_code
def yX1_minutes : MethodName := ⟨RX1, "minutes", "(II)I"⟩
theorem dX1_minutes_0 : decode cX1_minutes 0 = .ok (.iload_n 1, 1) := by decide +kernel
theorem dX1_minutes_1 : decode cX1_minutes 1 = .ok (.ireturn, 1) := by decide +kernel
theorem q82 : (Jvm.Cond.initialized "WithoutThem$Kind") ∈ lw_all := lw_g (lw_at lw_m1 2 rfl) rfl
theorem q129 : (Jvm.Cond.instanceMethod ({ cls := "WithoutThem$Kind", name := "<init>", desc := "()V" } : Jvm.MethodName)) ∈ lw_all := lw_g (lw_at lw_m1 49 rfl) rfl
theorem q130 : (Jvm.Cond.code ({ cls := "WithoutThem$Kind", name := "<init>", desc := "()V" } : Jvm.MethodName) prog_11_method_1_code (1 : Nat) (Option.none : Option Jvm.ClassFile.FieldType)) ∈ lw_all := lw_g (lw_at lw_m1 50 rfl) rfl
theorem q131 : (Jvm.Cond.methodLink "WithoutThem$Kind" (1 : Nat) ({ cls := "java/lang/Object", name := "<init>", desc := "()V" } : Jvm.MethodName)) ∈ lw_all := lw_g (lw_at lw_m1 51 rfl) rfl
theorem q661 : (Jvm.Cond.declares ({ cls := "WithoutThem$Kind", name := "kind", desc := "()I" } : Jvm.MethodName)) ∈ lw_tbl := lw_at lw_m3 101 rfl
theorem q662 : (Jvm.Cond.sameMethod "WithoutThem$Kind" "WithoutThem$Kind" "kind" "()I") ∈ lw_all := lw_g (lw_at lw_m3 102 rfl) rfl
theorem q686 : (Jvm.Cond.instanceMethod ({ cls := "WithoutThem$Kind", name := "minutes", desc := "(II)I" } : Jvm.MethodName)) ∈ lw_all := lw_g (lw_at lw_m3 126 rfl) rfl
theorem q687 : (Jvm.Cond.sameMethod "WithoutThem$Kind" "WithoutThem$Kind" "minutes" "(II)I") ∈ lw_all := lw_g (lw_at lw_m3 127 rfl) rfl
theorem q695 : (Jvm.Cond.declares ({ cls := "WithoutThem$Kind", name := "minutes", desc := "(II)I" } : Jvm.MethodName)) ∈ lw_tbl := lw_at lw_m3 135 rfl
theorem q696 : (Jvm.Cond.code ({ cls := "WithoutThem$Kind", name := "minutes", desc := "(II)I" } : Jvm.MethodName) prog_11_method_4_code (3 : Nat) (Option.some Jvm.ClassFile.FieldType.int)) ∈ lw_all := lw_g (lw_at lw_m3 136 rfl) rfl
theorem q731 : (Jvm.Cond.declares ({ cls := "WithoutThem$Kind", name := "may", desc := "(III)Z" } : Jvm.MethodName)) ∈ lw_tbl := lw_at lw_m3 171 rfl
theorem q732 : (Jvm.Cond.sameMethod "WithoutThem$Kind" "WithoutThem$Kind" "may" "(III)Z") ∈ lw_all := lw_g (lw_at lw_m3 172 rfl) rfl

/-! WithoutThem$QuickSeeker -/
set_option maxRecDepth 100000
def RX10 : String := "WithoutThem$QuickSeeker"
abbrev cX10_init : ByteArray := prog_16_method_1_code
def yX10_init : MethodName := ⟨RX10, "<init>", "()V"⟩
theorem dX10_init_0 : decode cX10_init 0 = .ok (.aload_n 0, 1) := by decide +kernel
theorem dX10_init_1 : decode cX10_init 1 = .ok (.invokespecial 1, 3) := by decide +kernel
theorem dX10_init_4 : decode cX10_init 4 = .ok (.return_, 1) := by decide +kernel
abbrev cX10_against : ByteArray := prog_16_method_2_code
def yX10_against : MethodName := ⟨RX10, "against", "(LWithoutThem$House;II)I"⟩
def dkwX10_against_0 : List UInt8 := [43, 28, 29, 182, 0, 7, 172]
abbrev dktX10_against_0 : List UInt8 := dkwX10_against_0 ++ []
theorem dksX10_against_0 : cX10_against.data.toList.drop 0 = dktX10_against_0 := by decide +kernel
theorem dX10_against_0 : decode cX10_against 0 = .ok (.aload_n 1, 1) := dk_43 (dk_at dksX10_against_0 0 rfl rfl)
theorem dX10_against_1 : decode cX10_against 1 = .ok (.iload_n 2, 1) := dk_28 (dk_at dksX10_against_0 1 rfl rfl)
theorem dX10_against_2 : decode cX10_against 2 = .ok (.iload_n 3, 1) := dk_29 (dk_at dksX10_against_0 2 rfl rfl)
theorem dX10_against_3 : decode cX10_against 3 = .ok (.invokevirtual 7, 3) := dk_182 0 7 (dk_at dksX10_against_0 3 rfl rfl)
theorem dX10_against_6 : decode cX10_against 6 = .ok (.ireturn, 1) := dk_172 (dk_at dksX10_against_0 6 rfl rfl)
theorem q91 : (Jvm.Cond.initialized "WithoutThem$QuickSeeker") ∈ lw_all := lw_g (lw_at lw_m1 11 rfl) rfl
theorem q181 : (Jvm.Cond.instantiable "WithoutThem$QuickSeeker" (0 : Nat)) ∈ lw_all := lw_g (lw_at lw_m1 101 rfl) rfl
theorem q183 : (Jvm.Cond.instanceMethod ({ cls := "WithoutThem$QuickSeeker", name := "<init>", desc := "()V" } : Jvm.MethodName)) ∈ lw_all := lw_g (lw_at lw_m1 103 rfl) rfl
theorem q184 : (Jvm.Cond.code ({ cls := "WithoutThem$QuickSeeker", name := "<init>", desc := "()V" } : Jvm.MethodName) prog_16_method_1_code (1 : Nat) (Option.none : Option Jvm.ClassFile.FieldType)) ∈ lw_all := lw_g (lw_at lw_m1 104 rfl) rfl
theorem q185 : (Jvm.Cond.methodLinkNest "WithoutThem$QuickSeeker" (1 : Nat) ({ cls := "WithoutThem$PlainSeeker", name := "<init>", desc := "()V" } : Jvm.MethodName) "WithoutThem") ∈ lw_tbl := lw_at lw_m1 105 rfl
theorem q186 : (Jvm.Cond.superclass "WithoutThem$QuickSeeker" "WithoutThem$PlainSeeker") ∈ lw_all := lw_g (lw_at lw_m1 106 rfl) rfl
theorem q906 : (Jvm.Cond.selects "WithoutThem$QuickSeeker" ({ cls := "WithoutThem$Seeker", name := "against", desc := "(LWithoutThem$House;II)I" } : Jvm.MethodName) ({ cls := "WithoutThem$QuickSeeker", name := "against", desc := "(LWithoutThem$House;II)I" } : Jvm.MethodName)) ∈ lw_all := lw_g (lw_at lw_m4 106 rfl) rfl
theorem q907 : (Jvm.Cond.instanceMethod ({ cls := "WithoutThem$QuickSeeker", name := "against", desc := "(LWithoutThem$House;II)I" } : Jvm.MethodName)) ∈ lw_all := lw_g (lw_at lw_m4 107 rfl) rfl
theorem q908 : (Jvm.Cond.code ({ cls := "WithoutThem$QuickSeeker", name := "against", desc := "(LWithoutThem$House;II)I" } : Jvm.MethodName) prog_16_method_2_code (4 : Nat) (Option.some Jvm.ClassFile.FieldType.int)) ∈ lw_all := lw_g (lw_at lw_m4 108 rfl) rfl
theorem q909 : (Jvm.Cond.methodLink "WithoutThem$QuickSeeker" (7 : Nat) ({ cls := "WithoutThem$House", name := "go", desc := "(II)I" } : Jvm.MethodName)) ∈ lw_all := lw_g (lw_at lw_m4 109 rfl) rfl
theorem q1448 : (Jvm.Cond.castable "WithoutThem$QuickSeeker" "WithoutThem$Seeker") ∈ lw_tbl := lw_at lw_m6 168 rfl

/-! WithoutThem$SafeSeeker -/
set_option maxRecDepth 100000
def RX11 : String := "WithoutThem$SafeSeeker"
abbrev cX11_init : ByteArray := prog_20_method_1_code
def yX11_init : MethodName := ⟨RX11, "<init>", "()V"⟩
theorem dX11_init_0 : decode cX11_init 0 = .ok (.aload_n 0, 1) := by decide +kernel
theorem dX11_init_1 : decode cX11_init 1 = .ok (.invokespecial 3, 3) := by decide +kernel
theorem dX11_init_4 : decode cX11_init 4 = .ok (.return_, 1) := by decide +kernel
abbrev cX11_against : ByteArray := prog_20_method_2_code
def yX11_against : MethodName := ⟨RX11, "against", "(LWithoutThem$House;II)I"⟩
def dkwX11_against_0 : List UInt8 := [16, 10, 43, 180, 0, 9, 28, 46, 100, 172]
abbrev dktX11_against_0 : List UInt8 := dkwX11_against_0 ++ []
theorem dksX11_against_0 : cX11_against.data.toList.drop 0 = dktX11_against_0 := by decide +kernel
theorem dX11_against_0 : decode cX11_against 0 = .ok (.bipush 10, 2) := dk_16 10 (dk_at dksX11_against_0 0 rfl rfl)
theorem dX11_against_2 : decode cX11_against 2 = .ok (.aload_n 1, 1) := dk_43 (dk_at dksX11_against_0 2 rfl rfl)
theorem dX11_against_3 : decode cX11_against 3 = .ok (.getfield 9, 3) := dk_180 0 9 (dk_at dksX11_against_0 3 rfl rfl)
theorem dX11_against_6 : decode cX11_against 6 = .ok (.iload_n 2, 1) := dk_28 (dk_at dksX11_against_0 6 rfl rfl)
theorem dX11_against_7 : decode cX11_against 7 = .ok (.iaload, 1) := dk_46 (dk_at dksX11_against_0 7 rfl rfl)
theorem dX11_against_8 : decode cX11_against 8 = .ok (.isub, 1) := dk_100 (dk_at dksX11_against_0 8 rfl rfl)
theorem dX11_against_9 : decode cX11_against 9 = .ok (.ireturn, 1) := dk_172 (dk_at dksX11_against_0 9 rfl rfl)
theorem q92 : (Jvm.Cond.initialized "WithoutThem$SafeSeeker") ∈ lw_all := lw_g (lw_at lw_m1 12 rfl) rfl
theorem q188 : (Jvm.Cond.instantiable "WithoutThem$SafeSeeker" (0 : Nat)) ∈ lw_all := lw_g (lw_at lw_m1 108 rfl) rfl
theorem q190 : (Jvm.Cond.instanceMethod ({ cls := "WithoutThem$SafeSeeker", name := "<init>", desc := "()V" } : Jvm.MethodName)) ∈ lw_all := lw_g (lw_at lw_m1 110 rfl) rfl
theorem q191 : (Jvm.Cond.code ({ cls := "WithoutThem$SafeSeeker", name := "<init>", desc := "()V" } : Jvm.MethodName) prog_20_method_1_code (1 : Nat) (Option.none : Option Jvm.ClassFile.FieldType)) ∈ lw_all := lw_g (lw_at lw_m1 111 rfl) rfl
theorem q192 : (Jvm.Cond.methodLinkNest "WithoutThem$SafeSeeker" (3 : Nat) ({ cls := "WithoutThem$PlainSeeker", name := "<init>", desc := "()V" } : Jvm.MethodName) "WithoutThem") ∈ lw_tbl := lw_at lw_m1 112 rfl
theorem q193 : (Jvm.Cond.superclass "WithoutThem$SafeSeeker" "WithoutThem$PlainSeeker") ∈ lw_all := lw_g (lw_at lw_m1 113 rfl) rfl
theorem q234 : (Jvm.Cond.fieldLinkNest "WithoutThem$SafeSeeker" (9 : Nat) "WithoutThem$House" "sures" "[I" "WithoutThem") ∈ lw_tbl := lw_at lw_m1 154 rfl
theorem q901 : (Jvm.Cond.instanceMethod ({ cls := "WithoutThem$SafeSeeker", name := "against", desc := "(LWithoutThem$House;II)I" } : Jvm.MethodName)) ∈ lw_all := lw_g (lw_at lw_m4 101 rfl) rfl
theorem q902 : (Jvm.Cond.code ({ cls := "WithoutThem$SafeSeeker", name := "against", desc := "(LWithoutThem$House;II)I" } : Jvm.MethodName) prog_20_method_2_code (4 : Nat) (Option.some Jvm.ClassFile.FieldType.int)) ∈ lw_all := lw_g (lw_at lw_m4 102 rfl) rfl
theorem q910 : (Jvm.Cond.selects "WithoutThem$SafeSeeker" ({ cls := "WithoutThem$Seeker", name := "against", desc := "(LWithoutThem$House;II)I" } : Jvm.MethodName) ({ cls := "WithoutThem$SafeSeeker", name := "against", desc := "(LWithoutThem$House;II)I" } : Jvm.MethodName)) ∈ lw_all := lw_g (lw_at lw_m4 110 rfl) rfl
theorem q1438 : (Jvm.Cond.sameMethod "WithoutThem$SafeSeeker" "WithoutThem$SafeSeeker" "against" "(LWithoutThem$House;II)I") ∈ lw_all := lw_g (lw_at lw_m6 158 rfl) rfl
theorem q1449 : (Jvm.Cond.castable "WithoutThem$SafeSeeker" "WithoutThem$Seeker") ∈ lw_tbl := lw_at lw_m6 169 rfl

/-! WithoutThem$WiseSeeker -/
set_option maxRecDepth 100000
def RX12 : String := "WithoutThem$WiseSeeker"
abbrev cX12_init : ByteArray := prog_26_method_1_code
def yX12_init : MethodName := ⟨RX12, "<init>", "()V"⟩
theorem dX12_init_0 : decode cX12_init 0 = .ok (.aload_n 0, 1) := by decide +kernel
theorem dX12_init_1 : decode cX12_init 1 = .ok (.invokespecial 3, 3) := by decide +kernel
theorem dX12_init_4 : decode cX12_init 4 = .ok (.return_, 1) := by decide +kernel
abbrev cX12_against : ByteArray := prog_26_method_2_code
def yX12_against : MethodName := ⟨RX12, "against", "(LWithoutThem$House;II)I"⟩
def dkwX12_against_0 : List UInt8 := [16, 10, 43, 29, 4, 28, 120, 128, 182, 0, 9, 184, 0, 15, 100, 172]
abbrev dktX12_against_0 : List UInt8 := dkwX12_against_0 ++ []
theorem dksX12_against_0 : cX12_against.data.toList.drop 0 = dktX12_against_0 := by decide +kernel
theorem dX12_against_0 : decode cX12_against 0 = .ok (.bipush 10, 2) := dk_16 10 (dk_at dksX12_against_0 0 rfl rfl)
theorem dX12_against_2 : decode cX12_against 2 = .ok (.aload_n 1, 1) := dk_43 (dk_at dksX12_against_0 2 rfl rfl)
theorem dX12_against_3 : decode cX12_against 3 = .ok (.iload_n 3, 1) := dk_29 (dk_at dksX12_against_0 3 rfl rfl)
theorem dX12_against_4 : decode cX12_against 4 = .ok (.iconst 1, 1) := dk_4 (dk_at dksX12_against_0 4 rfl rfl)
theorem dX12_against_5 : decode cX12_against 5 = .ok (.iload_n 2, 1) := dk_28 (dk_at dksX12_against_0 5 rfl rfl)
theorem dX12_against_6 : decode cX12_against 6 = .ok (.ishl, 1) := dk_120 (dk_at dksX12_against_0 6 rfl rfl)
theorem dX12_against_7 : decode cX12_against 7 = .ok (.ior, 1) := dk_128 (dk_at dksX12_against_0 7 rfl rfl)
theorem dX12_against_8 : decode cX12_against 8 = .ok (.invokevirtual 9, 3) := dk_182 0 9 (dk_at dksX12_against_0 8 rfl rfl)
theorem dX12_against_11 : decode cX12_against 11 = .ok (.invokestatic 15, 3) := dk_184 0 15 (dk_at dksX12_against_0 11 rfl rfl)
theorem dX12_against_14 : decode cX12_against 14 = .ok (.isub, 1) := dk_100 (dk_at dksX12_against_0 14 rfl rfl)
theorem dX12_against_15 : decode cX12_against 15 = .ok (.ireturn, 1) := dk_172 (dk_at dksX12_against_0 15 rfl rfl)
theorem q93 : (Jvm.Cond.initialized "WithoutThem$WiseSeeker") ∈ lw_all := lw_g (lw_at lw_m1 13 rfl) rfl
theorem q195 : (Jvm.Cond.instantiable "WithoutThem$WiseSeeker" (0 : Nat)) ∈ lw_all := lw_g (lw_at lw_m1 115 rfl) rfl
theorem q197 : (Jvm.Cond.instanceMethod ({ cls := "WithoutThem$WiseSeeker", name := "<init>", desc := "()V" } : Jvm.MethodName)) ∈ lw_all := lw_g (lw_at lw_m1 117 rfl) rfl
theorem q198 : (Jvm.Cond.code ({ cls := "WithoutThem$WiseSeeker", name := "<init>", desc := "()V" } : Jvm.MethodName) prog_26_method_1_code (1 : Nat) (Option.none : Option Jvm.ClassFile.FieldType)) ∈ lw_all := lw_g (lw_at lw_m1 118 rfl) rfl
theorem q199 : (Jvm.Cond.methodLinkNest "WithoutThem$WiseSeeker" (3 : Nat) ({ cls := "WithoutThem$QuickSeeker", name := "<init>", desc := "()V" } : Jvm.MethodName) "WithoutThem") ∈ lw_tbl := lw_at lw_m1 119 rfl
theorem q200 : (Jvm.Cond.superclass "WithoutThem$WiseSeeker" "WithoutThem$QuickSeeker") ∈ lw_all := lw_g (lw_at lw_m1 120 rfl) rfl
theorem q911 : (Jvm.Cond.selects "WithoutThem$WiseSeeker" ({ cls := "WithoutThem$Seeker", name := "against", desc := "(LWithoutThem$House;II)I" } : Jvm.MethodName) ({ cls := "WithoutThem$WiseSeeker", name := "against", desc := "(LWithoutThem$House;II)I" } : Jvm.MethodName)) ∈ lw_all := lw_g (lw_at lw_m4 111 rfl) rfl
theorem q912 : (Jvm.Cond.instanceMethod ({ cls := "WithoutThem$WiseSeeker", name := "against", desc := "(LWithoutThem$House;II)I" } : Jvm.MethodName)) ∈ lw_all := lw_g (lw_at lw_m4 112 rfl) rfl
theorem q913 : (Jvm.Cond.code ({ cls := "WithoutThem$WiseSeeker", name := "against", desc := "(LWithoutThem$House;II)I" } : Jvm.MethodName) prog_26_method_2_code (4 : Nat) (Option.some Jvm.ClassFile.FieldType.int)) ∈ lw_all := lw_g (lw_at lw_m4 113 rfl) rfl
theorem q914 : (Jvm.Cond.methodLink "WithoutThem$WiseSeeker" (9 : Nat) ({ cls := "WithoutThem$House", name := "mayBits", desc := "(I)I" } : Jvm.MethodName)) ∈ lw_all := lw_g (lw_at lw_m4 114 rfl) rfl
theorem q915 : (Jvm.Cond.methodLinkNest "WithoutThem$WiseSeeker" (15 : Nat) ({ cls := "WithoutThem", name := "ones", desc := "(I)I" } : Jvm.MethodName) "WithoutThem") ∈ lw_tbl := lw_at lw_m4 115 rfl
theorem q1450 : (Jvm.Cond.castable "WithoutThem$WiseSeeker" "WithoutThem$Seeker") ∈ lw_tbl := lw_at lw_m6 170 rfl

/-! WithoutThem$LostSeeker -/
set_option maxRecDepth 100000
def RX13 : String := "WithoutThem$LostSeeker"
abbrev cX13_init : ByteArray := prog_13_method_1_code
def yX13_init : MethodName := ⟨RX13, "<init>", "()V"⟩
theorem dX13_init_0 : decode cX13_init 0 = .ok (.aload_n 0, 1) := by decide +kernel
theorem dX13_init_1 : decode cX13_init 1 = .ok (.invokespecial 3, 3) := by decide +kernel
theorem dX13_init_4 : decode cX13_init 4 = .ok (.return_, 1) := by decide +kernel
abbrev cX13_against : ByteArray := prog_13_method_2_code
def yX13_against : MethodName := ⟨RX13, "against", "(LWithoutThem$House;II)I"⟩
def dkwX13_against_0 : List UInt8 := [16, 10, 42, 43, 28, 29, 183, 0, 9, 100, 172]
abbrev dktX13_against_0 : List UInt8 := dkwX13_against_0 ++ []
theorem dksX13_against_0 : cX13_against.data.toList.drop 0 = dktX13_against_0 := by decide +kernel
theorem dX13_against_0 : decode cX13_against 0 = .ok (.bipush 10, 2) := dk_16 10 (dk_at dksX13_against_0 0 rfl rfl)
theorem dX13_against_2 : decode cX13_against 2 = .ok (.aload_n 0, 1) := dk_42 (dk_at dksX13_against_0 2 rfl rfl)
theorem dX13_against_3 : decode cX13_against 3 = .ok (.aload_n 1, 1) := dk_43 (dk_at dksX13_against_0 3 rfl rfl)
theorem dX13_against_4 : decode cX13_against 4 = .ok (.iload_n 2, 1) := dk_28 (dk_at dksX13_against_0 4 rfl rfl)
theorem dX13_against_5 : decode cX13_against 5 = .ok (.iload_n 3, 1) := dk_29 (dk_at dksX13_against_0 5 rfl rfl)
theorem dX13_against_6 : decode cX13_against 6 = .ok (.invokespecial 9, 3) := dk_183 0 9 (dk_at dksX13_against_0 6 rfl rfl)
theorem dX13_against_9 : decode cX13_against 9 = .ok (.isub, 1) := dk_100 (dk_at dksX13_against_0 9 rfl rfl)
theorem dX13_against_10 : decode cX13_against 10 = .ok (.ireturn, 1) := dk_172 (dk_at dksX13_against_0 10 rfl rfl)
theorem q94 : (Jvm.Cond.initialized "WithoutThem$LostSeeker") ∈ lw_all := lw_g (lw_at lw_m1 14 rfl) rfl
theorem q202 : (Jvm.Cond.instantiable "WithoutThem$LostSeeker" (0 : Nat)) ∈ lw_all := lw_g (lw_at lw_m1 122 rfl) rfl
theorem q204 : (Jvm.Cond.instanceMethod ({ cls := "WithoutThem$LostSeeker", name := "<init>", desc := "()V" } : Jvm.MethodName)) ∈ lw_all := lw_g (lw_at lw_m1 124 rfl) rfl
theorem q205 : (Jvm.Cond.code ({ cls := "WithoutThem$LostSeeker", name := "<init>", desc := "()V" } : Jvm.MethodName) prog_13_method_1_code (1 : Nat) (Option.none : Option Jvm.ClassFile.FieldType)) ∈ lw_all := lw_g (lw_at lw_m1 125 rfl) rfl
theorem q206 : (Jvm.Cond.methodLinkNest "WithoutThem$LostSeeker" (3 : Nat) ({ cls := "WithoutThem$SafeSeeker", name := "<init>", desc := "()V" } : Jvm.MethodName) "WithoutThem") ∈ lw_tbl := lw_at lw_m1 126 rfl
theorem q207 : (Jvm.Cond.superclass "WithoutThem$LostSeeker" "WithoutThem$SafeSeeker") ∈ lw_all := lw_g (lw_at lw_m1 127 rfl) rfl
theorem q897 : (Jvm.Cond.selects "WithoutThem$LostSeeker" ({ cls := "WithoutThem$Seeker", name := "against", desc := "(LWithoutThem$House;II)I" } : Jvm.MethodName) ({ cls := "WithoutThem$LostSeeker", name := "against", desc := "(LWithoutThem$House;II)I" } : Jvm.MethodName)) ∈ lw_all := lw_g (lw_at lw_m4 97 rfl) rfl
theorem q898 : (Jvm.Cond.instanceMethod ({ cls := "WithoutThem$LostSeeker", name := "against", desc := "(LWithoutThem$House;II)I" } : Jvm.MethodName)) ∈ lw_all := lw_g (lw_at lw_m4 98 rfl) rfl
theorem q899 : (Jvm.Cond.code ({ cls := "WithoutThem$LostSeeker", name := "against", desc := "(LWithoutThem$House;II)I" } : Jvm.MethodName) prog_13_method_2_code (4 : Nat) (Option.some Jvm.ClassFile.FieldType.int)) ∈ lw_all := lw_g (lw_at lw_m4 99 rfl) rfl
theorem q900 : (Jvm.Cond.methodLink "WithoutThem$LostSeeker" (9 : Nat) ({ cls := "WithoutThem$SafeSeeker", name := "against", desc := "(LWithoutThem$House;II)I" } : Jvm.MethodName)) ∈ lw_all := lw_g (lw_at lw_m4 100 rfl) rfl
theorem q1451 : (Jvm.Cond.castable "WithoutThem$LostSeeker" "WithoutThem$Seeker") ∈ lw_tbl := lw_at lw_m6 171 rfl

/-! WithoutThem$GreedySeeker -/
set_option maxRecDepth 100000
def RX14 : String := "WithoutThem$GreedySeeker"
abbrev cX14_init : ByteArray := prog_8_method_1_code
def yX14_init : MethodName := ⟨RX14, "<init>", "()V"⟩
theorem dX14_init_0 : decode cX14_init 0 = .ok (.aload_n 0, 1) := by decide +kernel
theorem dX14_init_1 : decode cX14_init 1 = .ok (.invokespecial 1, 3) := by decide +kernel
theorem dX14_init_4 : decode cX14_init 4 = .ok (.return_, 1) := by decide +kernel
abbrev cX14_against : ByteArray := prog_8_method_2_code
def yX14_against : MethodName := ⟨RX14, "against", "(LWithoutThem$House;II)I"⟩
def dkwX14_against_0 : List UInt8 := [43, 180, 0, 7, 28, 46, 172]
abbrev dktX14_against_0 : List UInt8 := dkwX14_against_0 ++ []
theorem dksX14_against_0 : cX14_against.data.toList.drop 0 = dktX14_against_0 := by decide +kernel
theorem dX14_against_0 : decode cX14_against 0 = .ok (.aload_n 1, 1) := dk_43 (dk_at dksX14_against_0 0 rfl rfl)
theorem dX14_against_1 : decode cX14_against 1 = .ok (.getfield 7, 3) := dk_180 0 7 (dk_at dksX14_against_0 1 rfl rfl)
theorem dX14_against_4 : decode cX14_against 4 = .ok (.iload_n 2, 1) := dk_28 (dk_at dksX14_against_0 4 rfl rfl)
theorem dX14_against_5 : decode cX14_against 5 = .ok (.iaload, 1) := dk_46 (dk_at dksX14_against_0 5 rfl rfl)
theorem dX14_against_6 : decode cX14_against 6 = .ok (.ireturn, 1) := dk_172 (dk_at dksX14_against_0 6 rfl rfl)
theorem q95 : (Jvm.Cond.initialized "WithoutThem$GreedySeeker") ∈ lw_all := lw_g (lw_at lw_m1 15 rfl) rfl
theorem q209 : (Jvm.Cond.instantiable "WithoutThem$GreedySeeker" (0 : Nat)) ∈ lw_all := lw_g (lw_at lw_m1 129 rfl) rfl
theorem q211 : (Jvm.Cond.instanceMethod ({ cls := "WithoutThem$GreedySeeker", name := "<init>", desc := "()V" } : Jvm.MethodName)) ∈ lw_all := lw_g (lw_at lw_m1 131 rfl) rfl
theorem q212 : (Jvm.Cond.code ({ cls := "WithoutThem$GreedySeeker", name := "<init>", desc := "()V" } : Jvm.MethodName) prog_8_method_1_code (1 : Nat) (Option.none : Option Jvm.ClassFile.FieldType)) ∈ lw_all := lw_g (lw_at lw_m1 132 rfl) rfl
theorem q213 : (Jvm.Cond.methodLinkNest "WithoutThem$GreedySeeker" (1 : Nat) ({ cls := "WithoutThem$WiseSeeker", name := "<init>", desc := "()V" } : Jvm.MethodName) "WithoutThem") ∈ lw_tbl := lw_at lw_m1 133 rfl
theorem q214 : (Jvm.Cond.superclass "WithoutThem$GreedySeeker" "WithoutThem$WiseSeeker") ∈ lw_all := lw_g (lw_at lw_m1 134 rfl) rfl
theorem q239 : (Jvm.Cond.fieldLinkNest "WithoutThem$GreedySeeker" (7 : Nat) "WithoutThem$House" "costs" "[I" "WithoutThem") ∈ lw_tbl := lw_at lw_m1 159 rfl
theorem q894 : (Jvm.Cond.selects "WithoutThem$GreedySeeker" ({ cls := "WithoutThem$Seeker", name := "against", desc := "(LWithoutThem$House;II)I" } : Jvm.MethodName) ({ cls := "WithoutThem$GreedySeeker", name := "against", desc := "(LWithoutThem$House;II)I" } : Jvm.MethodName)) ∈ lw_all := lw_g (lw_at lw_m4 94 rfl) rfl
theorem q895 : (Jvm.Cond.instanceMethod ({ cls := "WithoutThem$GreedySeeker", name := "against", desc := "(LWithoutThem$House;II)I" } : Jvm.MethodName)) ∈ lw_all := lw_g (lw_at lw_m4 95 rfl) rfl
theorem q896 : (Jvm.Cond.code ({ cls := "WithoutThem$GreedySeeker", name := "against", desc := "(LWithoutThem$House;II)I" } : Jvm.MethodName) prog_8_method_2_code (4 : Nat) (Option.some Jvm.ClassFile.FieldType.int)) ∈ lw_all := lw_g (lw_at lw_m4 96 rfl) rfl
theorem q1452 : (Jvm.Cond.castable "WithoutThem$GreedySeeker" "WithoutThem$Seeker") ∈ lw_tbl := lw_at lw_m6 172 rfl

/-! WithoutThem$House -/
set_option maxRecDepth 100000
def RX15 : String := "WithoutThem$House"
def TX15 : u_T := fun k => match k with
  | 0 => ("WithoutThem$House", "things", "I", false)
  | 1 => ("WithoutThem$House", "kind", "[LWithoutThem$Kind;", true)
  | 2 => ("WithoutThem$House", "minutes", "[I", true)
  | 3 => ("WithoutThem$House", "sures", "[I", true)
  | 4 => ("WithoutThem$House", "costs", "[I", true)
  | 5 => ("WithoutThem$House", "anys", "[I", true)
  | 6 => ("WithoutThem$House", "alls", "[I", true)
  | 7 => ("WithoutThem$House", "hand", "I", false)
  | _ => ("WithoutThem$House", "minute", "I", false)
def tyX15 : Nat → FieldType := fun k => match k with
  | 0 => .int
  | 1 => .array (.object "WithoutThem$Kind")
  | 2 => .array .int
  | 3 => .array .int
  | 4 => .array .int
  | 5 => .array .int
  | 6 => .array .int
  | 7 => .int
  | _ => .int
abbrev wsX150 : List Cond := u_ws RX15 TX15 9
theorem nmX15 : ∀ a, a < 9 → ∀ b, b < 9 → a ≠ b → (TX15 a).2.1 ≠ (TX15 b).2.1 := by decide +kernel
theorem tyX15_ok : ∀ k, k < 9 → parseFieldDescriptor (TX15 k).2.2.1 = some (tyX15 k) := by decide +kernel
abbrev cX15_init : ByteArray := prog_10_method_1_code
def yX15_init : MethodName := ⟨RX15, "<init>", "()V"⟩
def dkwX15_init_2 : List UInt8 := [188, 10, 181, 0, 30, 177]
abbrev dktX15_init_2 : List UInt8 := dkwX15_init_2 ++ []
def dkwX15_init_1 : List UInt8 := [188, 10, 181, 0, 21, 42, 16, 10, 188, 10, 181, 0, 24, 42, 16, 10, 188, 10, 181, 0, 27, 42, 16, 10]
abbrev dktX15_init_1 : List UInt8 := dkwX15_init_1 ++ dktX15_init_2
def dkwX15_init_0 : List UInt8 := [42, 183, 0, 3, 42, 16, 10, 189, 0, 9, 181, 0, 11, 42, 16, 10, 188, 10, 181, 0, 17, 42, 16, 10]
abbrev dktX15_init_0 : List UInt8 := dkwX15_init_0 ++ dktX15_init_1
theorem dksX15_init_0 : cX15_init.data.toList.drop 0 = dktX15_init_0 := by decide +kernel
theorem dksX15_init_1 : cX15_init.data.toList.drop 24 = dktX15_init_1 := dk_seg dksX15_init_0 24 rfl rfl
theorem dksX15_init_2 : cX15_init.data.toList.drop 48 = dktX15_init_2 := dk_seg dksX15_init_1 24 rfl rfl
theorem dX15_init_0 : decode cX15_init 0 = .ok (.aload_n 0, 1) := dk_42 (dk_at dksX15_init_0 0 rfl rfl)
theorem dX15_init_1 : decode cX15_init 1 = .ok (.invokespecial 3, 3) := dk_183 0 3 (dk_at dksX15_init_0 1 rfl rfl)
theorem dX15_init_4 : decode cX15_init 4 = .ok (.aload_n 0, 1) := dk_42 (dk_at dksX15_init_0 4 rfl rfl)
theorem dX15_init_5 : decode cX15_init 5 = .ok (.bipush 10, 2) := dk_16 10 (dk_at dksX15_init_0 5 rfl rfl)
theorem dX15_init_7 : decode cX15_init 7 = .ok (.anewarray 9, 3) := dk_189 0 9 (dk_at dksX15_init_0 7 rfl rfl)
theorem dX15_init_10 : decode cX15_init 10 = .ok (.putfield 11, 3) := dk_181 0 11 (dk_at dksX15_init_0 10 rfl rfl)
theorem dX15_init_13 : decode cX15_init 13 = .ok (.aload_n 0, 1) := dk_42 (dk_at dksX15_init_0 13 rfl rfl)
theorem dX15_init_14 : decode cX15_init 14 = .ok (.bipush 10, 2) := dk_16 10 (dk_at dksX15_init_0 14 rfl rfl)
theorem dX15_init_16 : decode cX15_init 16 = .ok (.newarray .int, 2) := dk_188_10 (dk_at dksX15_init_0 16 rfl rfl)
theorem dX15_init_18 : decode cX15_init 18 = .ok (.putfield 17, 3) := dk_181 0 17 (dk_at dksX15_init_0 18 rfl rfl)
theorem dX15_init_21 : decode cX15_init 21 = .ok (.aload_n 0, 1) := dk_42 (dk_at dksX15_init_0 21 rfl rfl)
theorem dX15_init_22 : decode cX15_init 22 = .ok (.bipush 10, 2) := dk_16 10 (dk_at dksX15_init_0 22 rfl rfl)
theorem dX15_init_24 : decode cX15_init 24 = .ok (.newarray .int, 2) := dk_188_10 (dk_at dksX15_init_1 0 rfl rfl)
theorem dX15_init_26 : decode cX15_init 26 = .ok (.putfield 21, 3) := dk_181 0 21 (dk_at dksX15_init_1 2 rfl rfl)
theorem dX15_init_29 : decode cX15_init 29 = .ok (.aload_n 0, 1) := dk_42 (dk_at dksX15_init_1 5 rfl rfl)
theorem dX15_init_30 : decode cX15_init 30 = .ok (.bipush 10, 2) := dk_16 10 (dk_at dksX15_init_1 6 rfl rfl)
theorem dX15_init_32 : decode cX15_init 32 = .ok (.newarray .int, 2) := dk_188_10 (dk_at dksX15_init_1 8 rfl rfl)
theorem dX15_init_34 : decode cX15_init 34 = .ok (.putfield 24, 3) := dk_181 0 24 (dk_at dksX15_init_1 10 rfl rfl)
theorem dX15_init_37 : decode cX15_init 37 = .ok (.aload_n 0, 1) := dk_42 (dk_at dksX15_init_1 13 rfl rfl)
theorem dX15_init_38 : decode cX15_init 38 = .ok (.bipush 10, 2) := dk_16 10 (dk_at dksX15_init_1 14 rfl rfl)
theorem dX15_init_40 : decode cX15_init 40 = .ok (.newarray .int, 2) := dk_188_10 (dk_at dksX15_init_1 16 rfl rfl)
theorem dX15_init_42 : decode cX15_init 42 = .ok (.putfield 27, 3) := dk_181 0 27 (dk_at dksX15_init_1 18 rfl rfl)
theorem dX15_init_45 : decode cX15_init 45 = .ok (.aload_n 0, 1) := dk_42 (dk_at dksX15_init_1 21 rfl rfl)
theorem dX15_init_46 : decode cX15_init 46 = .ok (.bipush 10, 2) := dk_16 10 (dk_at dksX15_init_1 22 rfl rfl)
theorem dX15_init_48 : decode cX15_init 48 = .ok (.newarray .int, 2) := dk_188_10 (dk_at dksX15_init_2 0 rfl rfl)
theorem dX15_init_50 : decode cX15_init 50 = .ok (.putfield 30, 3) := dk_181 0 30 (dk_at dksX15_init_2 2 rfl rfl)
theorem dX15_init_53 : decode cX15_init 53 = .ok (.return_, 1) := dk_177 (dk_at dksX15_init_2 5 rfl rfl)
abbrev cX15_set : ByteArray := prog_10_method_2_code
def yX15_set : MethodName := ⟨RX15, "set", "(LWithoutThem$House;)V"⟩
def dkwX15_set_4 : List UInt8 := [16, 10, 184, 0, 43, 43, 180, 0, 30, 3, 42, 180, 0, 30, 3, 16, 10, 184, 0, 43, 177]
abbrev dktX15_set_4 : List UInt8 := dkwX15_set_4 ++ []
def dkwX15_set_3 : List UInt8 := [180, 0, 24, 3, 42, 180, 0, 24, 3, 16, 10, 184, 0, 43, 43, 180, 0, 27, 3, 42, 180, 0, 27, 3]
abbrev dktX15_set_3 : List UInt8 := dkwX15_set_3 ++ dktX15_set_4
def dkwX15_set_2 : List UInt8 := [3, 16, 10, 184, 0, 43, 43, 180, 0, 21, 3, 42, 180, 0, 21, 3, 16, 10, 184, 0, 43, 43]
abbrev dktX15_set_2 : List UInt8 := dkwX15_set_2 ++ dktX15_set_3
def dkwX15_set_1 : List UInt8 := [43, 180, 0, 11, 3, 42, 180, 0, 11, 3, 16, 10, 184, 0, 43, 43, 180, 0, 17, 3, 42, 180, 0, 17]
abbrev dktX15_set_1 : List UInt8 := dkwX15_set_1 ++ dktX15_set_2
def dkwX15_set_0 : List UInt8 := [42, 43, 180, 0, 33, 181, 0, 33, 42, 43, 180, 0, 37, 181, 0, 37, 42, 43, 180, 0, 40, 181, 0, 40]
abbrev dktX15_set_0 : List UInt8 := dkwX15_set_0 ++ dktX15_set_1
theorem dksX15_set_0 : cX15_set.data.toList.drop 0 = dktX15_set_0 := by decide +kernel
theorem dksX15_set_1 : cX15_set.data.toList.drop 24 = dktX15_set_1 := dk_seg dksX15_set_0 24 rfl rfl
theorem dksX15_set_2 : cX15_set.data.toList.drop 48 = dktX15_set_2 := dk_seg dksX15_set_1 24 rfl rfl
theorem dksX15_set_3 : cX15_set.data.toList.drop 70 = dktX15_set_3 := dk_seg dksX15_set_2 22 rfl rfl
theorem dksX15_set_4 : cX15_set.data.toList.drop 94 = dktX15_set_4 := dk_seg dksX15_set_3 24 rfl rfl
theorem dX15_set_0 : decode cX15_set 0 = .ok (.aload_n 0, 1) := dk_42 (dk_at dksX15_set_0 0 rfl rfl)
theorem dX15_set_1 : decode cX15_set 1 = .ok (.aload_n 1, 1) := dk_43 (dk_at dksX15_set_0 1 rfl rfl)
theorem dX15_set_2 : decode cX15_set 2 = .ok (.getfield 33, 3) := dk_180 0 33 (dk_at dksX15_set_0 2 rfl rfl)
theorem dX15_set_5 : decode cX15_set 5 = .ok (.putfield 33, 3) := dk_181 0 33 (dk_at dksX15_set_0 5 rfl rfl)
theorem dX15_set_8 : decode cX15_set 8 = .ok (.aload_n 0, 1) := dk_42 (dk_at dksX15_set_0 8 rfl rfl)
theorem dX15_set_9 : decode cX15_set 9 = .ok (.aload_n 1, 1) := dk_43 (dk_at dksX15_set_0 9 rfl rfl)
theorem dX15_set_10 : decode cX15_set 10 = .ok (.getfield 37, 3) := dk_180 0 37 (dk_at dksX15_set_0 10 rfl rfl)
theorem dX15_set_13 : decode cX15_set 13 = .ok (.putfield 37, 3) := dk_181 0 37 (dk_at dksX15_set_0 13 rfl rfl)
theorem dX15_set_16 : decode cX15_set 16 = .ok (.aload_n 0, 1) := dk_42 (dk_at dksX15_set_0 16 rfl rfl)
theorem dX15_set_17 : decode cX15_set 17 = .ok (.aload_n 1, 1) := dk_43 (dk_at dksX15_set_0 17 rfl rfl)
theorem dX15_set_18 : decode cX15_set 18 = .ok (.getfield 40, 3) := dk_180 0 40 (dk_at dksX15_set_0 18 rfl rfl)
theorem dX15_set_21 : decode cX15_set 21 = .ok (.putfield 40, 3) := dk_181 0 40 (dk_at dksX15_set_0 21 rfl rfl)
theorem dX15_set_24 : decode cX15_set 24 = .ok (.aload_n 1, 1) := dk_43 (dk_at dksX15_set_1 0 rfl rfl)
theorem dX15_set_25 : decode cX15_set 25 = .ok (.getfield 11, 3) := dk_180 0 11 (dk_at dksX15_set_1 1 rfl rfl)
theorem dX15_set_28 : decode cX15_set 28 = .ok (.iconst 0, 1) := dk_3 (dk_at dksX15_set_1 4 rfl rfl)
theorem dX15_set_29 : decode cX15_set 29 = .ok (.aload_n 0, 1) := dk_42 (dk_at dksX15_set_1 5 rfl rfl)
theorem dX15_set_30 : decode cX15_set 30 = .ok (.getfield 11, 3) := dk_180 0 11 (dk_at dksX15_set_1 6 rfl rfl)
theorem dX15_set_33 : decode cX15_set 33 = .ok (.iconst 0, 1) := dk_3 (dk_at dksX15_set_1 9 rfl rfl)
theorem dX15_set_34 : decode cX15_set 34 = .ok (.bipush 10, 2) := dk_16 10 (dk_at dksX15_set_1 10 rfl rfl)
theorem dX15_set_36 : decode cX15_set 36 = .ok (.invokestatic 43, 3) := dk_184 0 43 (dk_at dksX15_set_1 12 rfl rfl)
theorem dX15_set_39 : decode cX15_set 39 = .ok (.aload_n 1, 1) := dk_43 (dk_at dksX15_set_1 15 rfl rfl)
theorem dX15_set_40 : decode cX15_set 40 = .ok (.getfield 17, 3) := dk_180 0 17 (dk_at dksX15_set_1 16 rfl rfl)
theorem dX15_set_43 : decode cX15_set 43 = .ok (.iconst 0, 1) := dk_3 (dk_at dksX15_set_1 19 rfl rfl)
theorem dX15_set_44 : decode cX15_set 44 = .ok (.aload_n 0, 1) := dk_42 (dk_at dksX15_set_1 20 rfl rfl)
theorem dX15_set_45 : decode cX15_set 45 = .ok (.getfield 17, 3) := dk_180 0 17 (dk_at dksX15_set_1 21 rfl rfl)
theorem dX15_set_48 : decode cX15_set 48 = .ok (.iconst 0, 1) := dk_3 (dk_at dksX15_set_2 0 rfl rfl)
theorem dX15_set_49 : decode cX15_set 49 = .ok (.bipush 10, 2) := dk_16 10 (dk_at dksX15_set_2 1 rfl rfl)
theorem dX15_set_51 : decode cX15_set 51 = .ok (.invokestatic 43, 3) := dk_184 0 43 (dk_at dksX15_set_2 3 rfl rfl)
theorem dX15_set_54 : decode cX15_set 54 = .ok (.aload_n 1, 1) := dk_43 (dk_at dksX15_set_2 6 rfl rfl)
theorem dX15_set_55 : decode cX15_set 55 = .ok (.getfield 21, 3) := dk_180 0 21 (dk_at dksX15_set_2 7 rfl rfl)
theorem dX15_set_58 : decode cX15_set 58 = .ok (.iconst 0, 1) := dk_3 (dk_at dksX15_set_2 10 rfl rfl)
theorem dX15_set_59 : decode cX15_set 59 = .ok (.aload_n 0, 1) := dk_42 (dk_at dksX15_set_2 11 rfl rfl)
theorem dX15_set_60 : decode cX15_set 60 = .ok (.getfield 21, 3) := dk_180 0 21 (dk_at dksX15_set_2 12 rfl rfl)
theorem dX15_set_63 : decode cX15_set 63 = .ok (.iconst 0, 1) := dk_3 (dk_at dksX15_set_2 15 rfl rfl)
theorem dX15_set_64 : decode cX15_set 64 = .ok (.bipush 10, 2) := dk_16 10 (dk_at dksX15_set_2 16 rfl rfl)
theorem dX15_set_66 : decode cX15_set 66 = .ok (.invokestatic 43, 3) := dk_184 0 43 (dk_at dksX15_set_2 18 rfl rfl)
theorem dX15_set_69 : decode cX15_set 69 = .ok (.aload_n 1, 1) := dk_43 (dk_at dksX15_set_2 21 rfl rfl)
theorem dX15_set_70 : decode cX15_set 70 = .ok (.getfield 24, 3) := dk_180 0 24 (dk_at dksX15_set_3 0 rfl rfl)
theorem dX15_set_73 : decode cX15_set 73 = .ok (.iconst 0, 1) := dk_3 (dk_at dksX15_set_3 3 rfl rfl)
theorem dX15_set_74 : decode cX15_set 74 = .ok (.aload_n 0, 1) := dk_42 (dk_at dksX15_set_3 4 rfl rfl)
theorem dX15_set_75 : decode cX15_set 75 = .ok (.getfield 24, 3) := dk_180 0 24 (dk_at dksX15_set_3 5 rfl rfl)
theorem dX15_set_78 : decode cX15_set 78 = .ok (.iconst 0, 1) := dk_3 (dk_at dksX15_set_3 8 rfl rfl)
theorem dX15_set_79 : decode cX15_set 79 = .ok (.bipush 10, 2) := dk_16 10 (dk_at dksX15_set_3 9 rfl rfl)
theorem dX15_set_81 : decode cX15_set 81 = .ok (.invokestatic 43, 3) := dk_184 0 43 (dk_at dksX15_set_3 11 rfl rfl)
theorem dX15_set_84 : decode cX15_set 84 = .ok (.aload_n 1, 1) := dk_43 (dk_at dksX15_set_3 14 rfl rfl)
theorem dX15_set_85 : decode cX15_set 85 = .ok (.getfield 27, 3) := dk_180 0 27 (dk_at dksX15_set_3 15 rfl rfl)
theorem dX15_set_88 : decode cX15_set 88 = .ok (.iconst 0, 1) := dk_3 (dk_at dksX15_set_3 18 rfl rfl)
theorem dX15_set_89 : decode cX15_set 89 = .ok (.aload_n 0, 1) := dk_42 (dk_at dksX15_set_3 19 rfl rfl)
theorem dX15_set_90 : decode cX15_set 90 = .ok (.getfield 27, 3) := dk_180 0 27 (dk_at dksX15_set_3 20 rfl rfl)
theorem dX15_set_93 : decode cX15_set 93 = .ok (.iconst 0, 1) := dk_3 (dk_at dksX15_set_3 23 rfl rfl)
theorem dX15_set_94 : decode cX15_set 94 = .ok (.bipush 10, 2) := dk_16 10 (dk_at dksX15_set_4 0 rfl rfl)
theorem dX15_set_96 : decode cX15_set 96 = .ok (.invokestatic 43, 3) := dk_184 0 43 (dk_at dksX15_set_4 2 rfl rfl)
theorem dX15_set_99 : decode cX15_set 99 = .ok (.aload_n 1, 1) := dk_43 (dk_at dksX15_set_4 5 rfl rfl)
theorem dX15_set_100 : decode cX15_set 100 = .ok (.getfield 30, 3) := dk_180 0 30 (dk_at dksX15_set_4 6 rfl rfl)
theorem dX15_set_103 : decode cX15_set 103 = .ok (.iconst 0, 1) := dk_3 (dk_at dksX15_set_4 9 rfl rfl)
theorem dX15_set_104 : decode cX15_set 104 = .ok (.aload_n 0, 1) := dk_42 (dk_at dksX15_set_4 10 rfl rfl)
theorem dX15_set_105 : decode cX15_set 105 = .ok (.getfield 30, 3) := dk_180 0 30 (dk_at dksX15_set_4 11 rfl rfl)
theorem dX15_set_108 : decode cX15_set 108 = .ok (.iconst 0, 1) := dk_3 (dk_at dksX15_set_4 14 rfl rfl)
theorem dX15_set_109 : decode cX15_set 109 = .ok (.bipush 10, 2) := dk_16 10 (dk_at dksX15_set_4 15 rfl rfl)
theorem dX15_set_111 : decode cX15_set 111 = .ok (.invokestatic 43, 3) := dk_184 0 43 (dk_at dksX15_set_4 17 rfl rfl)
theorem dX15_set_114 : decode cX15_set 114 = .ok (.return_, 1) := dk_177 (dk_at dksX15_set_4 20 rfl rfl)
abbrev cX15_go : ByteArray := prog_10_method_8_code
def yX15_go : MethodName := ⟨RX15, "go", "(II)I"⟩
def dkwX15_go_0 : List UInt8 := [42, 180, 0, 11, 27, 50, 42, 180, 0, 17, 27, 46, 28, 182, 0, 67, 172]
abbrev dktX15_go_0 : List UInt8 := dkwX15_go_0 ++ []
theorem dksX15_go_0 : cX15_go.data.toList.drop 0 = dktX15_go_0 := by decide +kernel
theorem dX15_go_0 : decode cX15_go 0 = .ok (.aload_n 0, 1) := dk_42 (dk_at dksX15_go_0 0 rfl rfl)
theorem dX15_go_1 : decode cX15_go 1 = .ok (.getfield 11, 3) := dk_180 0 11 (dk_at dksX15_go_0 1 rfl rfl)
theorem dX15_go_4 : decode cX15_go 4 = .ok (.iload_n 1, 1) := dk_27 (dk_at dksX15_go_0 4 rfl rfl)
theorem dX15_go_5 : decode cX15_go 5 = .ok (.aaload, 1) := dk_50 (dk_at dksX15_go_0 5 rfl rfl)
theorem dX15_go_6 : decode cX15_go 6 = .ok (.aload_n 0, 1) := dk_42 (dk_at dksX15_go_0 6 rfl rfl)
theorem dX15_go_7 : decode cX15_go 7 = .ok (.getfield 17, 3) := dk_180 0 17 (dk_at dksX15_go_0 7 rfl rfl)
theorem dX15_go_10 : decode cX15_go 10 = .ok (.iload_n 1, 1) := dk_27 (dk_at dksX15_go_0 10 rfl rfl)
theorem dX15_go_11 : decode cX15_go 11 = .ok (.iaload, 1) := dk_46 (dk_at dksX15_go_0 11 rfl rfl)
theorem dX15_go_12 : decode cX15_go 12 = .ok (.iload_n 2, 1) := dk_28 (dk_at dksX15_go_0 12 rfl rfl)
theorem dX15_go_13 : decode cX15_go 13 = .ok (.invokevirtual 67, 3) := dk_182 0 67 (dk_at dksX15_go_0 13 rfl rfl)
theorem dX15_go_16 : decode cX15_go 16 = .ok (.ireturn, 1) := dk_172 (dk_at dksX15_go_0 16 rfl rfl)
abbrev cX15_may : ByteArray := prog_10_method_4_code
def yX15_may : MethodName := ⟨RX15, "may", "(II)Z"⟩
def dkwX15_may_1 : List UInt8 := [27, 46, 28, 182, 0, 53, 153, 0, 7, 4, 167, 0, 4, 3, 172]
abbrev dktX15_may_1 : List UInt8 := dkwX15_may_1 ++ []
def dkwX15_may_0 : List UInt8 := [28, 27, 184, 0, 49, 154, 0, 32, 42, 180, 0, 11, 27, 50, 42, 180, 0, 27, 27, 46, 42, 180, 0, 30]
abbrev dktX15_may_0 : List UInt8 := dkwX15_may_0 ++ dktX15_may_1
theorem dksX15_may_0 : cX15_may.data.toList.drop 0 = dktX15_may_0 := by decide +kernel
theorem dksX15_may_1 : cX15_may.data.toList.drop 24 = dktX15_may_1 := dk_seg dksX15_may_0 24 rfl rfl
theorem dX15_may_0 : decode cX15_may 0 = .ok (.iload_n 2, 1) := dk_28 (dk_at dksX15_may_0 0 rfl rfl)
theorem dX15_may_1 : decode cX15_may 1 = .ok (.iload_n 1, 1) := dk_27 (dk_at dksX15_may_0 1 rfl rfl)
theorem dX15_may_2 : decode cX15_may 2 = .ok (.invokestatic 49, 3) := dk_184 0 49 (dk_at dksX15_may_0 2 rfl rfl)
theorem dX15_may_5 : decode cX15_may 5 = .ok (.ifCond .ne 32, 3) := dk_154 0 32 (dk_at dksX15_may_0 5 rfl rfl)
theorem dX15_may_8 : decode cX15_may 8 = .ok (.aload_n 0, 1) := dk_42 (dk_at dksX15_may_0 8 rfl rfl)
theorem dX15_may_9 : decode cX15_may 9 = .ok (.getfield 11, 3) := dk_180 0 11 (dk_at dksX15_may_0 9 rfl rfl)
theorem dX15_may_12 : decode cX15_may 12 = .ok (.iload_n 1, 1) := dk_27 (dk_at dksX15_may_0 12 rfl rfl)
theorem dX15_may_13 : decode cX15_may 13 = .ok (.aaload, 1) := dk_50 (dk_at dksX15_may_0 13 rfl rfl)
theorem dX15_may_14 : decode cX15_may 14 = .ok (.aload_n 0, 1) := dk_42 (dk_at dksX15_may_0 14 rfl rfl)
theorem dX15_may_15 : decode cX15_may 15 = .ok (.getfield 27, 3) := dk_180 0 27 (dk_at dksX15_may_0 15 rfl rfl)
theorem dX15_may_18 : decode cX15_may 18 = .ok (.iload_n 1, 1) := dk_27 (dk_at dksX15_may_0 18 rfl rfl)
theorem dX15_may_19 : decode cX15_may 19 = .ok (.iaload, 1) := dk_46 (dk_at dksX15_may_0 19 rfl rfl)
theorem dX15_may_20 : decode cX15_may 20 = .ok (.aload_n 0, 1) := dk_42 (dk_at dksX15_may_0 20 rfl rfl)
theorem dX15_may_21 : decode cX15_may 21 = .ok (.getfield 30, 3) := dk_180 0 30 (dk_at dksX15_may_0 21 rfl rfl)
theorem dX15_may_24 : decode cX15_may 24 = .ok (.iload_n 1, 1) := dk_27 (dk_at dksX15_may_1 0 rfl rfl)
theorem dX15_may_25 : decode cX15_may 25 = .ok (.iaload, 1) := dk_46 (dk_at dksX15_may_1 1 rfl rfl)
theorem dX15_may_26 : decode cX15_may 26 = .ok (.iload_n 2, 1) := dk_28 (dk_at dksX15_may_1 2 rfl rfl)
theorem dX15_may_27 : decode cX15_may 27 = .ok (.invokevirtual 53, 3) := dk_182 0 53 (dk_at dksX15_may_1 3 rfl rfl)
theorem dX15_may_30 : decode cX15_may 30 = .ok (.ifCond .eq 7, 3) := dk_153 0 7 (dk_at dksX15_may_1 6 rfl rfl)
theorem dX15_may_33 : decode cX15_may 33 = .ok (.iconst 1, 1) := dk_4 (dk_at dksX15_may_1 9 rfl rfl)
theorem dX15_may_34 : decode cX15_may 34 = .ok (.goto 4, 3) := dk_167 0 4 (dk_at dksX15_may_1 10 rfl rfl)
theorem dX15_may_37 : decode cX15_may 37 = .ok (.iconst 0, 1) := dk_3 (dk_at dksX15_may_1 13 rfl rfl)
theorem dX15_may_38 : decode cX15_may 38 = .ok (.ireturn, 1) := dk_172 (dk_at dksX15_may_1 14 rfl rfl)
abbrev cX15_mayBits : ByteArray := prog_10_method_5_code
def yX15_mayBits : MethodName := ⟨RX15, "mayBits", "(I)I"⟩
def dkwX15_mayBits_1 : List UInt8 := [120, 167, 0, 4, 3, 128, 61, 132, 3, 1, 167, 255, 226, 28, 172]
abbrev dktX15_mayBits_1 : List UInt8 := dkwX15_mayBits_1 ++ []
def dkwX15_mayBits_0 : List UInt8 := [3, 61, 3, 62, 29, 42, 180, 0, 33, 162, 0, 28, 28, 42, 29, 27, 182, 0, 57, 153, 0, 9, 4, 29]
abbrev dktX15_mayBits_0 : List UInt8 := dkwX15_mayBits_0 ++ dktX15_mayBits_1
theorem dksX15_mayBits_0 : cX15_mayBits.data.toList.drop 0 = dktX15_mayBits_0 := by decide +kernel
theorem dksX15_mayBits_1 : cX15_mayBits.data.toList.drop 24 = dktX15_mayBits_1 := dk_seg dksX15_mayBits_0 24 rfl rfl
theorem dX15_mayBits_0 : decode cX15_mayBits 0 = .ok (.iconst 0, 1) := dk_3 (dk_at dksX15_mayBits_0 0 rfl rfl)
theorem dX15_mayBits_1 : decode cX15_mayBits 1 = .ok (.istore_n 2, 1) := dk_61 (dk_at dksX15_mayBits_0 1 rfl rfl)
theorem dX15_mayBits_2 : decode cX15_mayBits 2 = .ok (.iconst 0, 1) := dk_3 (dk_at dksX15_mayBits_0 2 rfl rfl)
theorem dX15_mayBits_3 : decode cX15_mayBits 3 = .ok (.istore_n 3, 1) := dk_62 (dk_at dksX15_mayBits_0 3 rfl rfl)
theorem dX15_mayBits_4 : decode cX15_mayBits 4 = .ok (.iload_n 3, 1) := dk_29 (dk_at dksX15_mayBits_0 4 rfl rfl)
theorem dX15_mayBits_5 : decode cX15_mayBits 5 = .ok (.aload_n 0, 1) := dk_42 (dk_at dksX15_mayBits_0 5 rfl rfl)
theorem dX15_mayBits_6 : decode cX15_mayBits 6 = .ok (.getfield 33, 3) := dk_180 0 33 (dk_at dksX15_mayBits_0 6 rfl rfl)
theorem dX15_mayBits_9 : decode cX15_mayBits 9 = .ok (.if_icmp .ge 28, 3) := dk_162 0 28 (dk_at dksX15_mayBits_0 9 rfl rfl)
theorem dX15_mayBits_12 : decode cX15_mayBits 12 = .ok (.iload_n 2, 1) := dk_28 (dk_at dksX15_mayBits_0 12 rfl rfl)
theorem dX15_mayBits_13 : decode cX15_mayBits 13 = .ok (.aload_n 0, 1) := dk_42 (dk_at dksX15_mayBits_0 13 rfl rfl)
theorem dX15_mayBits_14 : decode cX15_mayBits 14 = .ok (.iload_n 3, 1) := dk_29 (dk_at dksX15_mayBits_0 14 rfl rfl)
theorem dX15_mayBits_15 : decode cX15_mayBits 15 = .ok (.iload_n 1, 1) := dk_27 (dk_at dksX15_mayBits_0 15 rfl rfl)
theorem dX15_mayBits_16 : decode cX15_mayBits 16 = .ok (.invokevirtual 57, 3) := dk_182 0 57 (dk_at dksX15_mayBits_0 16 rfl rfl)
theorem dX15_mayBits_19 : decode cX15_mayBits 19 = .ok (.ifCond .eq 9, 3) := dk_153 0 9 (dk_at dksX15_mayBits_0 19 rfl rfl)
theorem dX15_mayBits_22 : decode cX15_mayBits 22 = .ok (.iconst 1, 1) := dk_4 (dk_at dksX15_mayBits_0 22 rfl rfl)
theorem dX15_mayBits_23 : decode cX15_mayBits 23 = .ok (.iload_n 3, 1) := dk_29 (dk_at dksX15_mayBits_0 23 rfl rfl)
theorem dX15_mayBits_24 : decode cX15_mayBits 24 = .ok (.ishl, 1) := dk_120 (dk_at dksX15_mayBits_1 0 rfl rfl)
theorem dX15_mayBits_25 : decode cX15_mayBits 25 = .ok (.goto 4, 3) := dk_167 0 4 (dk_at dksX15_mayBits_1 1 rfl rfl)
theorem dX15_mayBits_28 : decode cX15_mayBits 28 = .ok (.iconst 0, 1) := dk_3 (dk_at dksX15_mayBits_1 4 rfl rfl)
theorem dX15_mayBits_29 : decode cX15_mayBits 29 = .ok (.ior, 1) := dk_128 (dk_at dksX15_mayBits_1 5 rfl rfl)
theorem dX15_mayBits_30 : decode cX15_mayBits 30 = .ok (.istore_n 2, 1) := dk_61 (dk_at dksX15_mayBits_1 6 rfl rfl)
theorem dX15_mayBits_31 : decode cX15_mayBits 31 = .ok (.iinc 3 1, 3) := dk_132 3 1 (dk_at dksX15_mayBits_1 7 rfl rfl)
theorem dX15_mayBits_34 : decode cX15_mayBits 34 = .ok (.goto (-30), 3) := dk_167 255 226 (dk_at dksX15_mayBits_1 10 rfl rfl)
theorem dX15_mayBits_37 : decode cX15_mayBits 37 = .ok (.iload_n 2, 1) := dk_28 (dk_at dksX15_mayBits_1 13 rfl rfl)
theorem dX15_mayBits_38 : decode cX15_mayBits 38 = .ok (.ireturn, 1) := dk_172 (dk_at dksX15_mayBits_1 14 rfl rfl)
abbrev cX15_whole : ByteArray := prog_10_method_3_code
def yX15_whole : MethodName := ⟨RX15, "whole", "()I"⟩
def dkwX15_whole_0 : List UInt8 := [4, 42, 180, 0, 33, 120, 4, 100, 172]
abbrev dktX15_whole_0 : List UInt8 := dkwX15_whole_0 ++ []
theorem dksX15_whole_0 : cX15_whole.data.toList.drop 0 = dktX15_whole_0 := by decide +kernel
theorem dX15_whole_0 : decode cX15_whole 0 = .ok (.iconst 1, 1) := dk_4 (dk_at dksX15_whole_0 0 rfl rfl)
theorem dX15_whole_1 : decode cX15_whole 1 = .ok (.aload_n 0, 1) := dk_42 (dk_at dksX15_whole_0 1 rfl rfl)
theorem dX15_whole_2 : decode cX15_whole 2 = .ok (.getfield 33, 3) := dk_180 0 33 (dk_at dksX15_whole_0 2 rfl rfl)
theorem dX15_whole_5 : decode cX15_whole 5 = .ok (.ishl, 1) := dk_120 (dk_at dksX15_whole_0 5 rfl rfl)
theorem dX15_whole_6 : decode cX15_whole 6 = .ok (.iconst 1, 1) := dk_4 (dk_at dksX15_whole_0 6 rfl rfl)
theorem dX15_whole_7 : decode cX15_whole 7 = .ok (.isub, 1) := dk_100 (dk_at dksX15_whole_0 7 rfl rfl)
theorem dX15_whole_8 : decode cX15_whole 8 = .ok (.ireturn, 1) := dk_172 (dk_at dksX15_whole_0 8 rfl rfl)
abbrev cX15_reach : ByteArray := prog_10_method_7_code
def yX15_reach : MethodName := ⟨RX15, "reach", "(I)I"⟩
def dkwX15_reach_0 : List UInt8 := [42, 27, 3, 182, 0, 63, 172]
abbrev dktX15_reach_0 : List UInt8 := dkwX15_reach_0 ++ []
theorem dksX15_reach_0 : cX15_reach.data.toList.drop 0 = dktX15_reach_0 := by decide +kernel
theorem dX15_reach_0 : decode cX15_reach 0 = .ok (.aload_n 0, 1) := dk_42 (dk_at dksX15_reach_0 0 rfl rfl)
theorem dX15_reach_1 : decode cX15_reach 1 = .ok (.iload_n 1, 1) := dk_27 (dk_at dksX15_reach_0 1 rfl rfl)
theorem dX15_reach_2 : decode cX15_reach 2 = .ok (.iconst 0, 1) := dk_3 (dk_at dksX15_reach_0 2 rfl rfl)
theorem dX15_reach_3 : decode cX15_reach 3 = .ok (.invokevirtual 63, 3) := dk_182 0 63 (dk_at dksX15_reach_0 3 rfl rfl)
theorem dX15_reach_6 : decode cX15_reach 6 = .ok (.ireturn, 1) := dk_172 (dk_at dksX15_reach_0 6 rfl rfl)
abbrev cX15_reachBut : ByteArray := prog_10_method_6_code
def yX15_reachBut : MethodName := ⟨RX15, "reachBut", "(II)I"⟩
def dkwX15_reachBut_1 : List UInt8 := [21, 4, 128, 62, 42, 29, 182, 0, 59, 28, 2, 130, 126, 54, 4, 167, 255, 235, 29, 172]
abbrev dktX15_reachBut_1 : List UInt8 := dkwX15_reachBut_1 ++ []
def dkwX15_reachBut_0 : List UInt8 := [27, 28, 2, 130, 126, 62, 42, 29, 182, 0, 59, 28, 2, 130, 126, 54, 4, 21, 4, 153, 0, 22, 29]
abbrev dktX15_reachBut_0 : List UInt8 := dkwX15_reachBut_0 ++ dktX15_reachBut_1
theorem dksX15_reachBut_0 : cX15_reachBut.data.toList.drop 0 = dktX15_reachBut_0 := by decide +kernel
theorem dksX15_reachBut_1 : cX15_reachBut.data.toList.drop 23 = dktX15_reachBut_1 := dk_seg dksX15_reachBut_0 23 rfl rfl
theorem dX15_reachBut_0 : decode cX15_reachBut 0 = .ok (.iload_n 1, 1) := dk_27 (dk_at dksX15_reachBut_0 0 rfl rfl)
theorem dX15_reachBut_1 : decode cX15_reachBut 1 = .ok (.iload_n 2, 1) := dk_28 (dk_at dksX15_reachBut_0 1 rfl rfl)
theorem dX15_reachBut_2 : decode cX15_reachBut 2 = .ok (.iconst (-1), 1) := dk_2 (dk_at dksX15_reachBut_0 2 rfl rfl)
theorem dX15_reachBut_3 : decode cX15_reachBut 3 = .ok (.ixor, 1) := dk_130 (dk_at dksX15_reachBut_0 3 rfl rfl)
theorem dX15_reachBut_4 : decode cX15_reachBut 4 = .ok (.iand, 1) := dk_126 (dk_at dksX15_reachBut_0 4 rfl rfl)
theorem dX15_reachBut_5 : decode cX15_reachBut 5 = .ok (.istore_n 3, 1) := dk_62 (dk_at dksX15_reachBut_0 5 rfl rfl)
theorem dX15_reachBut_6 : decode cX15_reachBut 6 = .ok (.aload_n 0, 1) := dk_42 (dk_at dksX15_reachBut_0 6 rfl rfl)
theorem dX15_reachBut_7 : decode cX15_reachBut 7 = .ok (.iload_n 3, 1) := dk_29 (dk_at dksX15_reachBut_0 7 rfl rfl)
theorem dX15_reachBut_8 : decode cX15_reachBut 8 = .ok (.invokevirtual 59, 3) := dk_182 0 59 (dk_at dksX15_reachBut_0 8 rfl rfl)
theorem dX15_reachBut_11 : decode cX15_reachBut 11 = .ok (.iload_n 2, 1) := dk_28 (dk_at dksX15_reachBut_0 11 rfl rfl)
theorem dX15_reachBut_12 : decode cX15_reachBut 12 = .ok (.iconst (-1), 1) := dk_2 (dk_at dksX15_reachBut_0 12 rfl rfl)
theorem dX15_reachBut_13 : decode cX15_reachBut 13 = .ok (.ixor, 1) := dk_130 (dk_at dksX15_reachBut_0 13 rfl rfl)
theorem dX15_reachBut_14 : decode cX15_reachBut 14 = .ok (.iand, 1) := dk_126 (dk_at dksX15_reachBut_0 14 rfl rfl)
theorem dX15_reachBut_15 : decode cX15_reachBut 15 = .ok (.istore 4, 2) := dk_54 4 (dk_at dksX15_reachBut_0 15 rfl rfl)
theorem dX15_reachBut_17 : decode cX15_reachBut 17 = .ok (.iload 4, 2) := dk_21 4 (dk_at dksX15_reachBut_0 17 rfl rfl)
theorem dX15_reachBut_19 : decode cX15_reachBut 19 = .ok (.ifCond .eq 22, 3) := dk_153 0 22 (dk_at dksX15_reachBut_0 19 rfl rfl)
theorem dX15_reachBut_22 : decode cX15_reachBut 22 = .ok (.iload_n 3, 1) := dk_29 (dk_at dksX15_reachBut_0 22 rfl rfl)
theorem dX15_reachBut_23 : decode cX15_reachBut 23 = .ok (.iload 4, 2) := dk_21 4 (dk_at dksX15_reachBut_1 0 rfl rfl)
theorem dX15_reachBut_25 : decode cX15_reachBut 25 = .ok (.ior, 1) := dk_128 (dk_at dksX15_reachBut_1 2 rfl rfl)
theorem dX15_reachBut_26 : decode cX15_reachBut 26 = .ok (.istore_n 3, 1) := dk_62 (dk_at dksX15_reachBut_1 3 rfl rfl)
theorem dX15_reachBut_27 : decode cX15_reachBut 27 = .ok (.aload_n 0, 1) := dk_42 (dk_at dksX15_reachBut_1 4 rfl rfl)
theorem dX15_reachBut_28 : decode cX15_reachBut 28 = .ok (.iload_n 3, 1) := dk_29 (dk_at dksX15_reachBut_1 5 rfl rfl)
theorem dX15_reachBut_29 : decode cX15_reachBut 29 = .ok (.invokevirtual 59, 3) := dk_182 0 59 (dk_at dksX15_reachBut_1 6 rfl rfl)
theorem dX15_reachBut_32 : decode cX15_reachBut 32 = .ok (.iload_n 2, 1) := dk_28 (dk_at dksX15_reachBut_1 9 rfl rfl)
theorem dX15_reachBut_33 : decode cX15_reachBut 33 = .ok (.iconst (-1), 1) := dk_2 (dk_at dksX15_reachBut_1 10 rfl rfl)
theorem dX15_reachBut_34 : decode cX15_reachBut 34 = .ok (.ixor, 1) := dk_130 (dk_at dksX15_reachBut_1 11 rfl rfl)
theorem dX15_reachBut_35 : decode cX15_reachBut 35 = .ok (.iand, 1) := dk_126 (dk_at dksX15_reachBut_1 12 rfl rfl)
theorem dX15_reachBut_36 : decode cX15_reachBut 36 = .ok (.istore 4, 2) := dk_54 4 (dk_at dksX15_reachBut_1 13 rfl rfl)
theorem dX15_reachBut_38 : decode cX15_reachBut 38 = .ok (.goto (-21), 3) := dk_167 255 235 (dk_at dksX15_reachBut_1 15 rfl rfl)
theorem dX15_reachBut_41 : decode cX15_reachBut 41 = .ok (.iload_n 3, 1) := dk_29 (dk_at dksX15_reachBut_1 18 rfl rfl)
theorem dX15_reachBut_42 : decode cX15_reachBut 42 = .ok (.ireturn, 1) := dk_172 (dk_at dksX15_reachBut_1 19 rfl rfl)
abbrev cX15_goMean : ByteArray := prog_10_method_9_code
def yX15_goMean : MethodName := ⟨RX15, "goMean", "(II)J"⟩
def dkwX15_goMean_0 : List UInt8 := [42, 27, 28, 182, 0, 69, 133, 20, 0, 72, 42, 180, 0, 21, 27, 46, 133, 109, 105, 173]
abbrev dktX15_goMean_0 : List UInt8 := dkwX15_goMean_0 ++ []
theorem dksX15_goMean_0 : cX15_goMean.data.toList.drop 0 = dktX15_goMean_0 := by decide +kernel
theorem dX15_goMean_0 : decode cX15_goMean 0 = .ok (.aload_n 0, 1) := dk_42 (dk_at dksX15_goMean_0 0 rfl rfl)
theorem dX15_goMean_1 : decode cX15_goMean 1 = .ok (.iload_n 1, 1) := dk_27 (dk_at dksX15_goMean_0 1 rfl rfl)
theorem dX15_goMean_2 : decode cX15_goMean 2 = .ok (.iload_n 2, 1) := dk_28 (dk_at dksX15_goMean_0 2 rfl rfl)
theorem dX15_goMean_3 : decode cX15_goMean 3 = .ok (.invokevirtual 69, 3) := dk_182 0 69 (dk_at dksX15_goMean_0 3 rfl rfl)
theorem dX15_goMean_6 : decode cX15_goMean 6 = .ok (.i2l, 1) := dk_133 (dk_at dksX15_goMean_0 6 rfl rfl)
theorem dX15_goMean_7 : decode cX15_goMean 7 = .ok (.ldc2_w 72, 3) := dk_20 0 72 (dk_at dksX15_goMean_0 7 rfl rfl)
theorem dX15_goMean_10 : decode cX15_goMean 10 = .ok (.aload_n 0, 1) := dk_42 (dk_at dksX15_goMean_0 10 rfl rfl)
theorem dX15_goMean_11 : decode cX15_goMean 11 = .ok (.getfield 21, 3) := dk_180 0 21 (dk_at dksX15_goMean_0 11 rfl rfl)
theorem dX15_goMean_14 : decode cX15_goMean 14 = .ok (.iload_n 1, 1) := dk_27 (dk_at dksX15_goMean_0 14 rfl rfl)
theorem dX15_goMean_15 : decode cX15_goMean 15 = .ok (.iaload, 1) := dk_46 (dk_at dksX15_goMean_0 15 rfl rfl)
theorem dX15_goMean_16 : decode cX15_goMean 16 = .ok (.i2l, 1) := dk_133 (dk_at dksX15_goMean_0 16 rfl rfl)
theorem dX15_goMean_17 : decode cX15_goMean 17 = .ok (.ldiv, 1) := dk_109 (dk_at dksX15_goMean_0 17 rfl rfl)
theorem dX15_goMean_18 : decode cX15_goMean 18 = .ok (.lmul, 1) := dk_105 (dk_at dksX15_goMean_0 18 rfl rfl)
theorem dX15_goMean_19 : decode cX15_goMean 19 = .ok (.lreturn, 1) := dk_173 (dk_at dksX15_goMean_0 19 rfl rfl)
theorem q96 : (Jvm.Cond.initialized "WithoutThem$House") ∈ lw_all := lw_g (lw_at lw_m1 16 rfl) rfl
theorem q216 : (Jvm.Cond.instantiable "WithoutThem$House" (9 : Nat)) ∈ lw_all := lw_g (lw_at lw_m1 136 rfl) rfl
theorem q218 : (Jvm.Cond.instanceMethod ({ cls := "WithoutThem$House", name := "<init>", desc := "()V" } : Jvm.MethodName)) ∈ lw_all := lw_g (lw_at lw_m1 138 rfl) rfl
theorem q219 : (Jvm.Cond.code ({ cls := "WithoutThem$House", name := "<init>", desc := "()V" } : Jvm.MethodName) prog_10_method_1_code (1 : Nat) (Option.none : Option Jvm.ClassFile.FieldType)) ∈ lw_all := lw_g (lw_at lw_m1 139 rfl) rfl
theorem q220 : (Jvm.Cond.methodLink "WithoutThem$House" (3 : Nat) ({ cls := "java/lang/Object", name := "<init>", desc := "()V" } : Jvm.MethodName)) ∈ lw_all := lw_g (lw_at lw_m1 140 rfl) rfl
theorem q221 : (Jvm.Cond.classLink "WithoutThem$House" (9 : Nat) "WithoutThem$Kind") ∈ lw_all := lw_g (lw_at lw_m1 141 rfl) rfl
theorem q222 : (Jvm.Cond.fieldLink "WithoutThem$House" (33 : Nat) "WithoutThem$House" "things" "I") ∈ lw_all := lw_g (lw_at lw_m1 142 rfl) rfl
theorem q227 : (Jvm.Cond.fieldLink "WithoutThem$House" (11 : Nat) "WithoutThem$House" "kind" "[LWithoutThem$Kind;") ∈ lw_all := lw_g (lw_at lw_m1 147 rfl) rfl
theorem q230 : (Jvm.Cond.fieldLink "WithoutThem$House" (17 : Nat) "WithoutThem$House" "minutes" "[I") ∈ lw_all := lw_g (lw_at lw_m1 150 rfl) rfl
theorem q233 : (Jvm.Cond.fieldLink "WithoutThem$House" (21 : Nat) "WithoutThem$House" "sures" "[I") ∈ lw_all := lw_g (lw_at lw_m1 153 rfl) rfl
theorem q237 : (Jvm.Cond.fieldLink "WithoutThem$House" (24 : Nat) "WithoutThem$House" "costs" "[I") ∈ lw_all := lw_g (lw_at lw_m1 157 rfl) rfl
theorem q242 : (Jvm.Cond.fieldLink "WithoutThem$House" (27 : Nat) "WithoutThem$House" "anys" "[I") ∈ lw_all := lw_g (lw_at lw_m1 162 rfl) rfl
theorem q246 : (Jvm.Cond.fieldLink "WithoutThem$House" (30 : Nat) "WithoutThem$House" "alls" "[I") ∈ lw_all := lw_g (lw_at lw_m1 166 rfl) rfl
theorem q250 : (Jvm.Cond.fieldLink "WithoutThem$House" (37 : Nat) "WithoutThem$House" "hand" "I") ∈ lw_all := lw_g (lw_at lw_m1 170 rfl) rfl
theorem q254 : (Jvm.Cond.fieldLink "WithoutThem$House" (40 : Nat) "WithoutThem$House" "minute" "I") ∈ lw_all := lw_g (lw_at lw_m1 174 rfl) rfl
theorem q256 : (Jvm.Cond.lays "WithoutThem$House" "WithoutThem$House" "things" "I") ∈ lw_all := lw_g (lw_at lw_m1 176 rfl) rfl
theorem q257 : (Jvm.Cond.soleField "WithoutThem$House" "things") ∈ lw_all := lw_g (lw_at lw_m1 177 rfl) rfl
theorem q258 : (Jvm.Cond.laysFinal "WithoutThem$House" "WithoutThem$House" "kind" "[LWithoutThem$Kind;") ∈ lw_all := lw_g (lw_at lw_m1 178 rfl) rfl
theorem q259 : (Jvm.Cond.soleField "WithoutThem$House" "kind") ∈ lw_all := lw_g (lw_at lw_m1 179 rfl) rfl
theorem q260 : (Jvm.Cond.laysFinal "WithoutThem$House" "WithoutThem$House" "minutes" "[I") ∈ lw_all := lw_g (lw_at lw_m1 180 rfl) rfl
theorem q261 : (Jvm.Cond.soleField "WithoutThem$House" "minutes") ∈ lw_all := lw_g (lw_at lw_m1 181 rfl) rfl
theorem q262 : (Jvm.Cond.laysFinal "WithoutThem$House" "WithoutThem$House" "sures" "[I") ∈ lw_all := lw_g (lw_at lw_m1 182 rfl) rfl
theorem q263 : (Jvm.Cond.soleField "WithoutThem$House" "sures") ∈ lw_all := lw_g (lw_at lw_m1 183 rfl) rfl
theorem q264 : (Jvm.Cond.laysFinal "WithoutThem$House" "WithoutThem$House" "costs" "[I") ∈ lw_all := lw_g (lw_at lw_m1 184 rfl) rfl
theorem q265 : (Jvm.Cond.soleField "WithoutThem$House" "costs") ∈ lw_all := lw_g (lw_at lw_m1 185 rfl) rfl
theorem q266 : (Jvm.Cond.laysFinal "WithoutThem$House" "WithoutThem$House" "anys" "[I") ∈ lw_all := lw_g (lw_at lw_m1 186 rfl) rfl
theorem q267 : (Jvm.Cond.soleField "WithoutThem$House" "anys") ∈ lw_all := lw_g (lw_at lw_m1 187 rfl) rfl
theorem q268 : (Jvm.Cond.laysFinal "WithoutThem$House" "WithoutThem$House" "alls" "[I") ∈ lw_all := lw_g (lw_at lw_m1 188 rfl) rfl
theorem q269 : (Jvm.Cond.soleField "WithoutThem$House" "alls") ∈ lw_all := lw_g (lw_at lw_m1 189 rfl) rfl
theorem q270 : (Jvm.Cond.lays "WithoutThem$House" "WithoutThem$House" "hand" "I") ∈ lw_all := lw_g (lw_at lw_m1 190 rfl) rfl
theorem q271 : (Jvm.Cond.soleField "WithoutThem$House" "hand") ∈ lw_all := lw_g (lw_at lw_m1 191 rfl) rfl
theorem q272 : (Jvm.Cond.lays "WithoutThem$House" "WithoutThem$House" "minute" "I") ∈ lw_all := lw_g (lw_at lw_m1 192 rfl) rfl
theorem q273 : (Jvm.Cond.soleField "WithoutThem$House" "minute") ∈ lw_all := lw_g (lw_at lw_m1 193 rfl) rfl
theorem q274 : (Jvm.Cond.superclass "WithoutThem$House" "java/lang/Object") ∈ lw_all := lw_g (lw_at lw_m1 194 rfl) rfl
theorem q595 : (Jvm.Cond.instanceMethod ({ cls := "WithoutThem$House", name := "set", desc := "(LWithoutThem$House;)V" } : Jvm.MethodName)) ∈ lw_all := lw_g (lw_at lw_m3 35 rfl) rfl
theorem q596 : (Jvm.Cond.selects "WithoutThem$House" ({ cls := "WithoutThem$House", name := "set", desc := "(LWithoutThem$House;)V" } : Jvm.MethodName) ({ cls := "WithoutThem$House", name := "set", desc := "(LWithoutThem$House;)V" } : Jvm.MethodName)) ∈ lw_all := lw_g (lw_at lw_m3 36 rfl) rfl
theorem q597 : (Jvm.Cond.code ({ cls := "WithoutThem$House", name := "set", desc := "(LWithoutThem$House;)V" } : Jvm.MethodName) prog_10_method_2_code (2 : Nat) (Option.none : Option Jvm.ClassFile.FieldType)) ∈ lw_all := lw_g (lw_at lw_m3 37 rfl) rfl
theorem q598 : (Jvm.Cond.methodLink "WithoutThem$House" (43 : Nat) ({ cls := "java/lang/System", name := "arraycopy", desc := "(Ljava/lang/Object;ILjava/lang/Object;II)V" } : Jvm.MethodName)) ∈ lw_all := lw_g (lw_at lw_m3 38 rfl) rfl
theorem q682 : (Jvm.Cond.instanceMethod ({ cls := "WithoutThem$House", name := "go", desc := "(II)I" } : Jvm.MethodName)) ∈ lw_all := lw_g (lw_at lw_m3 122 rfl) rfl
theorem q683 : (Jvm.Cond.selects "WithoutThem$House" ({ cls := "WithoutThem$House", name := "go", desc := "(II)I" } : Jvm.MethodName) ({ cls := "WithoutThem$House", name := "go", desc := "(II)I" } : Jvm.MethodName)) ∈ lw_all := lw_g (lw_at lw_m3 123 rfl) rfl
theorem q684 : (Jvm.Cond.code ({ cls := "WithoutThem$House", name := "go", desc := "(II)I" } : Jvm.MethodName) prog_10_method_8_code (3 : Nat) (Option.some Jvm.ClassFile.FieldType.int)) ∈ lw_all := lw_g (lw_at lw_m3 124 rfl) rfl
theorem q685 : (Jvm.Cond.methodLink "WithoutThem$House" (67 : Nat) ({ cls := "WithoutThem$Kind", name := "minutes", desc := "(II)I" } : Jvm.MethodName)) ∈ lw_all := lw_g (lw_at lw_m3 125 rfl) rfl
theorem q726 : (Jvm.Cond.instanceMethod ({ cls := "WithoutThem$House", name := "may", desc := "(II)Z" } : Jvm.MethodName)) ∈ lw_all := lw_g (lw_at lw_m3 166 rfl) rfl
theorem q727 : (Jvm.Cond.selects "WithoutThem$House" ({ cls := "WithoutThem$House", name := "may", desc := "(II)Z" } : Jvm.MethodName) ({ cls := "WithoutThem$House", name := "may", desc := "(II)Z" } : Jvm.MethodName)) ∈ lw_all := lw_g (lw_at lw_m3 167 rfl) rfl
theorem q728 : (Jvm.Cond.code ({ cls := "WithoutThem$House", name := "may", desc := "(II)Z" } : Jvm.MethodName) prog_10_method_4_code (3 : Nat) (Option.some Jvm.ClassFile.FieldType.boolean)) ∈ lw_all := lw_g (lw_at lw_m3 168 rfl) rfl
theorem q729 : (Jvm.Cond.methodLinkNest "WithoutThem$House" (49 : Nat) ({ cls := "WithoutThem", name := "has", desc := "(II)Z" } : Jvm.MethodName) "WithoutThem") ∈ lw_tbl := lw_at lw_m3 169 rfl
theorem q730 : (Jvm.Cond.methodLink "WithoutThem$House" (53 : Nat) ({ cls := "WithoutThem$Kind", name := "may", desc := "(III)Z" } : Jvm.MethodName)) ∈ lw_all := lw_g (lw_at lw_m3 170 rfl) rfl
theorem q752 : (Jvm.Cond.instanceMethod ({ cls := "WithoutThem$House", name := "mayBits", desc := "(I)I" } : Jvm.MethodName)) ∈ lw_all := lw_g (lw_at lw_m3 192 rfl) rfl
theorem q753 : (Jvm.Cond.selects "WithoutThem$House" ({ cls := "WithoutThem$House", name := "mayBits", desc := "(I)I" } : Jvm.MethodName) ({ cls := "WithoutThem$House", name := "mayBits", desc := "(I)I" } : Jvm.MethodName)) ∈ lw_all := lw_g (lw_at lw_m3 193 rfl) rfl
theorem q754 : (Jvm.Cond.code ({ cls := "WithoutThem$House", name := "mayBits", desc := "(I)I" } : Jvm.MethodName) prog_10_method_5_code (4 : Nat) (Option.some Jvm.ClassFile.FieldType.int)) ∈ lw_all := lw_g (lw_at lw_m3 194 rfl) rfl
theorem q755 : (Jvm.Cond.methodLink "WithoutThem$House" (57 : Nat) ({ cls := "WithoutThem$House", name := "may", desc := "(II)Z" } : Jvm.MethodName)) ∈ lw_all := lw_g (lw_at lw_m3 195 rfl) rfl
theorem q761 : (Jvm.Cond.instanceMethod ({ cls := "WithoutThem$House", name := "whole", desc := "()I" } : Jvm.MethodName)) ∈ lw_all := lw_g (lw_at lw_m3 201 rfl) rfl
theorem q762 : (Jvm.Cond.selects "WithoutThem$House" ({ cls := "WithoutThem$House", name := "whole", desc := "()I" } : Jvm.MethodName) ({ cls := "WithoutThem$House", name := "whole", desc := "()I" } : Jvm.MethodName)) ∈ lw_all := lw_g (lw_at lw_m3 202 rfl) rfl
theorem q763 : (Jvm.Cond.code ({ cls := "WithoutThem$House", name := "whole", desc := "()I" } : Jvm.MethodName) prog_10_method_3_code (1 : Nat) (Option.some Jvm.ClassFile.FieldType.int)) ∈ lw_all := lw_g (lw_at lw_m3 203 rfl) rfl
theorem q765 : (Jvm.Cond.instanceMethod ({ cls := "WithoutThem$House", name := "reach", desc := "(I)I" } : Jvm.MethodName)) ∈ lw_all := lw_g (lw_at lw_m3 205 rfl) rfl
theorem q766 : (Jvm.Cond.selects "WithoutThem$House" ({ cls := "WithoutThem$House", name := "reach", desc := "(I)I" } : Jvm.MethodName) ({ cls := "WithoutThem$House", name := "reach", desc := "(I)I" } : Jvm.MethodName)) ∈ lw_all := lw_g (lw_at lw_m3 206 rfl) rfl
theorem q767 : (Jvm.Cond.code ({ cls := "WithoutThem$House", name := "reach", desc := "(I)I" } : Jvm.MethodName) prog_10_method_7_code (2 : Nat) (Option.some Jvm.ClassFile.FieldType.int)) ∈ lw_all := lw_g (lw_at lw_m3 207 rfl) rfl
theorem q768 : (Jvm.Cond.methodLink "WithoutThem$House" (63 : Nat) ({ cls := "WithoutThem$House", name := "reachBut", desc := "(II)I" } : Jvm.MethodName)) ∈ lw_all := lw_g (lw_at lw_m3 208 rfl) rfl
theorem q769 : (Jvm.Cond.instanceMethod ({ cls := "WithoutThem$House", name := "reachBut", desc := "(II)I" } : Jvm.MethodName)) ∈ lw_all := lw_g (lw_at lw_m3 209 rfl) rfl
theorem q770 : (Jvm.Cond.selects "WithoutThem$House" ({ cls := "WithoutThem$House", name := "reachBut", desc := "(II)I" } : Jvm.MethodName) ({ cls := "WithoutThem$House", name := "reachBut", desc := "(II)I" } : Jvm.MethodName)) ∈ lw_all := lw_g (lw_at lw_m3 210 rfl) rfl
theorem q771 : (Jvm.Cond.code ({ cls := "WithoutThem$House", name := "reachBut", desc := "(II)I" } : Jvm.MethodName) prog_10_method_6_code (5 : Nat) (Option.some Jvm.ClassFile.FieldType.int)) ∈ lw_all := lw_g (lw_at lw_m3 211 rfl) rfl
theorem q772 : (Jvm.Cond.methodLink "WithoutThem$House" (59 : Nat) ({ cls := "WithoutThem$House", name := "mayBits", desc := "(I)I" } : Jvm.MethodName)) ∈ lw_all := lw_g (lw_at lw_m3 212 rfl) rfl
theorem q793 : (Jvm.Cond.instanceMethod ({ cls := "WithoutThem$House", name := "goMean", desc := "(II)J" } : Jvm.MethodName)) ∈ lw_all := lw_g (lw_at lw_m3 233 rfl) rfl
theorem q794 : (Jvm.Cond.selects "WithoutThem$House" ({ cls := "WithoutThem$House", name := "goMean", desc := "(II)J" } : Jvm.MethodName) ({ cls := "WithoutThem$House", name := "goMean", desc := "(II)J" } : Jvm.MethodName)) ∈ lw_all := lw_g (lw_at lw_m3 234 rfl) rfl
theorem q795 : (Jvm.Cond.code ({ cls := "WithoutThem$House", name := "goMean", desc := "(II)J" } : Jvm.MethodName) prog_10_method_9_code (3 : Nat) (Option.some Jvm.ClassFile.FieldType.long)) ∈ lw_all := lw_g (lw_at lw_m3 235 rfl) rfl
theorem q796 : (Jvm.Cond.methodLink "WithoutThem$House" (69 : Nat) ({ cls := "WithoutThem$House", name := "go", desc := "(II)I" } : Jvm.MethodName)) ∈ lw_all := lw_g (lw_at lw_m3 236 rfl) rfl
theorem q797 : (Jvm.Cond.constantLong "WithoutThem$House" (72 : Nat) (25200 : Int64)) ∈ lw_all := lw_g (lw_at lw_m3 237 rfl) rfl
theorem in_X15 : ∀ w ∈ wsX150, w ∈ lw_all := lw_in wsX150 [256, 258, 260, 262, 264, 266, 268, 270, 272] (by decide +kernel) (by decide +kernel)

/-! WithoutThem$Refusal -/
set_option maxRecDepth 100000
def RX17 : String := "WithoutThem$Refusal"
abbrev cX17_init : ByteArray := prog_18_method_1_code
def yX17_init : MethodName := ⟨RX17, "<init>", "()V"⟩
theorem dX17_init_0 : decode cX17_init 0 = .ok (.aload_n 0, 1) := by decide +kernel
theorem dX17_init_1 : decode cX17_init 1 = .ok (.invokespecial 1, 3) := by decide +kernel
theorem dX17_init_4 : decode cX17_init 4 = .ok (.return_, 1) := by decide +kernel
theorem q101 : (Jvm.Cond.initialized "WithoutThem$Refusal") ∈ lw_all := lw_g (lw_at lw_m1 21 rfl) rfl
theorem q364 : (Jvm.Cond.declares ({ cls := "WithoutThem$Refusal", name := "<init>", desc := "()V" } : Jvm.MethodName)) ∈ lw_tbl := lw_at lw_m2 44 rfl
theorem q406 : (Jvm.Cond.instanceMethod ({ cls := "WithoutThem$Refusal", name := "<init>", desc := "()V" } : Jvm.MethodName)) ∈ lw_all := lw_g (lw_at lw_m2 86 rfl) rfl
theorem q407 : (Jvm.Cond.code ({ cls := "WithoutThem$Refusal", name := "<init>", desc := "()V" } : Jvm.MethodName) prog_18_method_1_code (1 : Nat) (Option.none : Option Jvm.ClassFile.FieldType)) ∈ lw_all := lw_g (lw_at lw_m2 87 rfl) rfl
theorem q408 : (Jvm.Cond.methodLink "WithoutThem$Refusal" (1 : Nat) ({ cls := "java/lang/RuntimeException", name := "<init>", desc := "()V" } : Jvm.MethodName)) ∈ lw_all := lw_g (lw_at lw_m2 88 rfl) rfl
theorem q933 : (Jvm.Cond.declares ({ cls := "WithoutThem$Refusal", name := "number", desc := "()I" } : Jvm.MethodName)) ∈ lw_tbl := lw_at lw_m4 133 rfl
theorem q934 : (Jvm.Cond.sameMethod "WithoutThem$Refusal" "WithoutThem$Refusal" "number" "()I") ∈ lw_all := lw_g (lw_at lw_m4 134 rfl) rfl

/-! WithoutThem$Refused -/
set_option maxRecDepth 100000
def RX18 : String := "WithoutThem$Refused"
def TX18 : u_T := fun k => match k with
  | 0 => ("java/lang/Throwable", "cause", "Ljava/lang/Throwable;", false)
  | 1 => ("java/lang/Throwable", "stackTrace", "[Ljava/lang/StackTraceElement;", false)
  | 2 => ("java/lang/Throwable", "suppressedExceptions", "Ljava/util/List;", false)
  | 3 => ("java/lang/Throwable", "detailMessage", "Ljava/lang/String;", false)
  | 4 => ("java/lang/Throwable", "backtrace", "Ljava/lang/Object;", false)
  | 5 => ("java/lang/Throwable", "depth", "I", false)
  | _ => ("WithoutThem$Refused", "number", "I", true)
def tyX18 : Nat → FieldType := fun k => match k with
  | 0 => .object "java/lang/Throwable"
  | 1 => .array (.object "java/lang/StackTraceElement")
  | 2 => .object "java/util/List"
  | 3 => .object "java/lang/String"
  | 4 => .object "java/lang/Object"
  | 5 => .int
  | _ => .int
abbrev wsX180 : List Cond := u_ws RX18 TX18 7
theorem nmX18 : ∀ a, a < 7 → ∀ b, b < 7 → a ≠ b → (TX18 a).2.1 ≠ (TX18 b).2.1 := by decide +kernel
theorem tyX18_ok : ∀ k, k < 7 → parseFieldDescriptor (TX18 k).2.2.1 = some (tyX18 k) := by decide +kernel
abbrev cX18_init : ByteArray := prog_19_method_1_code
def yX18_init : MethodName := ⟨RX18, "<init>", "(I)V"⟩
def dkwX18_init_0 : List UInt8 := [42, 183, 0, 1, 42, 27, 181, 0, 7, 177]
abbrev dktX18_init_0 : List UInt8 := dkwX18_init_0 ++ []
theorem dksX18_init_0 : cX18_init.data.toList.drop 0 = dktX18_init_0 := by decide +kernel
theorem dX18_init_0 : decode cX18_init 0 = .ok (.aload_n 0, 1) := dk_42 (dk_at dksX18_init_0 0 rfl rfl)
theorem dX18_init_1 : decode cX18_init 1 = .ok (.invokespecial 1, 3) := dk_183 0 1 (dk_at dksX18_init_0 1 rfl rfl)
theorem dX18_init_4 : decode cX18_init 4 = .ok (.aload_n 0, 1) := dk_42 (dk_at dksX18_init_0 4 rfl rfl)
theorem dX18_init_5 : decode cX18_init 5 = .ok (.iload_n 1, 1) := dk_27 (dk_at dksX18_init_0 5 rfl rfl)
theorem dX18_init_6 : decode cX18_init 6 = .ok (.putfield 7, 3) := dk_181 0 7 (dk_at dksX18_init_0 6 rfl rfl)
theorem dX18_init_9 : decode cX18_init 9 = .ok (.return_, 1) := dk_177 (dk_at dksX18_init_0 9 rfl rfl)
abbrev cX18_number : ByteArray := prog_19_method_2_code
def yX18_number : MethodName := ⟨RX18, "number", "()I"⟩
theorem dX18_number_0 : decode cX18_number 0 = .ok (.aload_n 0, 1) := by decide +kernel
theorem dX18_number_1 : decode cX18_number 1 = .ok (.getfield 7, 3) := by decide +kernel
theorem dX18_number_4 : decode cX18_number 4 = .ok (.ireturn, 1) := by decide +kernel
theorem q102 : (Jvm.Cond.initialized "WithoutThem$Refused") ∈ lw_all := lw_g (lw_at lw_m1 22 rfl) rfl
theorem q362 : (Jvm.Cond.instantiable "WithoutThem$Refused" (7 : Nat)) ∈ lw_all := lw_g (lw_at lw_m2 42 rfl) rfl
theorem q363 : (Jvm.Cond.castable "WithoutThem$Refused" "WithoutThem$Refused") ∈ lw_tbl := lw_at lw_m2 43 rfl
theorem q371 : (Jvm.Cond.selects "WithoutThem$Refused" ({ cls := "java/lang/Throwable", name := "fillInStackTrace", desc := "(I)Ljava/lang/Throwable;" } : Jvm.MethodName) ({ cls := "java/lang/Throwable", name := "fillInStackTrace", desc := "(I)Ljava/lang/Throwable;" } : Jvm.MethodName)) ∈ lw_all := lw_g (lw_at lw_m2 51 rfl) rfl
theorem q372 : (Jvm.Cond.selects "WithoutThem$Refused" ({ cls := "java/lang/Throwable", name := "fillInStackTrace", desc := "()Ljava/lang/Throwable;" } : Jvm.MethodName) ({ cls := "java/lang/Throwable", name := "fillInStackTrace", desc := "()Ljava/lang/Throwable;" } : Jvm.MethodName)) ∈ lw_all := lw_g (lw_at lw_m2 52 rfl) rfl
theorem q373 : (Jvm.Cond.lays "WithoutThem$Refused" "java/lang/Throwable" "cause" "Ljava/lang/Throwable;") ∈ lw_all := lw_g (lw_at lw_m2 53 rfl) rfl
theorem q375 : (Jvm.Cond.lays "WithoutThem$Refused" "java/lang/Throwable" "stackTrace" "[Ljava/lang/StackTraceElement;") ∈ lw_all := lw_g (lw_at lw_m2 55 rfl) rfl
theorem q377 : (Jvm.Cond.lays "WithoutThem$Refused" "java/lang/Throwable" "suppressedExceptions" "Ljava/util/List;") ∈ lw_all := lw_g (lw_at lw_m2 57 rfl) rfl
theorem q379 : (Jvm.Cond.lays "WithoutThem$Refused" "java/lang/Throwable" "detailMessage" "Ljava/lang/String;") ∈ lw_all := lw_g (lw_at lw_m2 59 rfl) rfl
theorem q381 : (Jvm.Cond.lays "WithoutThem$Refused" "java/lang/Throwable" "backtrace" "Ljava/lang/Object;") ∈ lw_all := lw_g (lw_at lw_m2 61 rfl) rfl
theorem q403 : (Jvm.Cond.instanceMethod ({ cls := "WithoutThem$Refused", name := "<init>", desc := "(I)V" } : Jvm.MethodName)) ∈ lw_all := lw_g (lw_at lw_m2 83 rfl) rfl
theorem q404 : (Jvm.Cond.code ({ cls := "WithoutThem$Refused", name := "<init>", desc := "(I)V" } : Jvm.MethodName) prog_19_method_1_code (2 : Nat) (Option.none : Option Jvm.ClassFile.FieldType)) ∈ lw_all := lw_g (lw_at lw_m2 84 rfl) rfl
theorem q405 : (Jvm.Cond.methodLinkNest "WithoutThem$Refused" (1 : Nat) ({ cls := "WithoutThem$Refusal", name := "<init>", desc := "()V" } : Jvm.MethodName) "WithoutThem") ∈ lw_tbl := lw_at lw_m2 85 rfl
theorem q415 : (Jvm.Cond.fieldLink "WithoutThem$Refused" (7 : Nat) "WithoutThem$Refused" "number" "I") ∈ lw_all := lw_g (lw_at lw_m2 95 rfl) rfl
theorem q420 : (Jvm.Cond.laysFinal "WithoutThem$Refused" "WithoutThem$Refused" "number" "I") ∈ lw_all := lw_g (lw_at lw_m2 100 rfl) rfl
theorem q421 : (Jvm.Cond.soleField "WithoutThem$Refused" "number") ∈ lw_all := lw_g (lw_at lw_m2 101 rfl) rfl
theorem q426 : (Jvm.Cond.lays "WithoutThem$Refused" "java/lang/Throwable" "depth" "I") ∈ lw_all := lw_g (lw_at lw_m2 106 rfl) rfl
theorem q429 : (Jvm.Cond.superclass "WithoutThem$Refused" "WithoutThem$Refusal") ∈ lw_all := lw_g (lw_at lw_m2 109 rfl) rfl
theorem q938 : (Jvm.Cond.selects "WithoutThem$Refused" ({ cls := "WithoutThem$Refusal", name := "number", desc := "()I" } : Jvm.MethodName) ({ cls := "WithoutThem$Refused", name := "number", desc := "()I" } : Jvm.MethodName)) ∈ lw_all := lw_g (lw_at lw_m4 138 rfl) rfl
theorem q939 : (Jvm.Cond.instanceMethod ({ cls := "WithoutThem$Refused", name := "number", desc := "()I" } : Jvm.MethodName)) ∈ lw_all := lw_g (lw_at lw_m4 139 rfl) rfl
theorem q940 : (Jvm.Cond.code ({ cls := "WithoutThem$Refused", name := "number", desc := "()I" } : Jvm.MethodName) prog_19_method_2_code (1 : Nat) (Option.some Jvm.ClassFile.FieldType.int)) ∈ lw_all := lw_g (lw_at lw_m4 140 rfl) rfl
theorem q1440 : (Jvm.Cond.castable "WithoutThem$Refused" "WithoutThem$Refusal") ∈ lw_tbl := lw_at lw_m6 160 rfl
theorem in_X18 : ∀ w ∈ wsX180, w ∈ lw_all := lw_in wsX180 [373, 375, 377, 379, 381, 426, 420] (by decide +kernel) (by decide +kernel)

/-! WithoutThem$Reader -/
set_option maxRecDepth 100000
def RX19 : String := "WithoutThem$Reader"
def TX19 : u_T := fun k => match k with
  | 0 => ("WithoutThem$Reader", "size", "I", true)
  | 1 => ("WithoutThem$Reader", "at", "I", false)
  | _ => ("WithoutThem$Reader", "this$0", "LWithoutThem;", true)
def tyX19 : Nat → FieldType := fun k => match k with
  | 0 => .int
  | 1 => .int
  | _ => .object "WithoutThem"
abbrev wsX190 : List Cond := u_ws RX19 TX19 3
theorem nmX19 : ∀ a, a < 3 → ∀ b, b < 3 → a ≠ b → (TX19 a).2.1 ≠ (TX19 b).2.1 := by decide +kernel
theorem tyX19_ok : ∀ k, k < 3 → parseFieldDescriptor (TX19 k).2.2.1 = some (tyX19 k) := by decide +kernel
abbrev cX19_init : ByteArray := prog_17_method_1_code
def yX19_init : MethodName := ⟨RX19, "<init>", "(LWithoutThem;)V"⟩
def dkwX19_init_0 : List UInt8 := [42, 43, 181, 0, 1, 42, 183, 0, 7, 42, 42, 180, 0, 1, 180, 0, 13, 181, 0, 19, 177]
abbrev dktX19_init_0 : List UInt8 := dkwX19_init_0 ++ []
theorem dksX19_init_0 : cX19_init.data.toList.drop 0 = dktX19_init_0 := by decide +kernel
theorem dX19_init_0 : decode cX19_init 0 = .ok (.aload_n 0, 1) := dk_42 (dk_at dksX19_init_0 0 rfl rfl)
theorem dX19_init_1 : decode cX19_init 1 = .ok (.aload_n 1, 1) := dk_43 (dk_at dksX19_init_0 1 rfl rfl)
theorem dX19_init_2 : decode cX19_init 2 = .ok (.putfield 1, 3) := dk_181 0 1 (dk_at dksX19_init_0 2 rfl rfl)
theorem dX19_init_5 : decode cX19_init 5 = .ok (.aload_n 0, 1) := dk_42 (dk_at dksX19_init_0 5 rfl rfl)
theorem dX19_init_6 : decode cX19_init 6 = .ok (.invokespecial 7, 3) := dk_183 0 7 (dk_at dksX19_init_0 6 rfl rfl)
theorem dX19_init_9 : decode cX19_init 9 = .ok (.aload_n 0, 1) := dk_42 (dk_at dksX19_init_0 9 rfl rfl)
theorem dX19_init_10 : decode cX19_init 10 = .ok (.aload_n 0, 1) := dk_42 (dk_at dksX19_init_0 10 rfl rfl)
theorem dX19_init_11 : decode cX19_init 11 = .ok (.getfield 1, 3) := dk_180 0 1 (dk_at dksX19_init_0 11 rfl rfl)
theorem dX19_init_14 : decode cX19_init 14 = .ok (.getfield 13, 3) := dk_180 0 13 (dk_at dksX19_init_0 14 rfl rfl)
theorem dX19_init_17 : decode cX19_init 17 = .ok (.putfield 19, 3) := dk_181 0 19 (dk_at dksX19_init_0 17 rfl rfl)
theorem dX19_init_20 : decode cX19_init 20 = .ok (.return_, 1) := dk_177 (dk_at dksX19_init_0 20 rfl rfl)
abbrev cX19_statement : ByteArray := prog_17_method_7_code
def yX19_statement : MethodName := ⟨RX19, "statement", "()LWithoutThem$Told;"⟩
def dkwX19_statement_3 : List UInt8 := [167, 0, 9, 42, 28, 27, 182, 0, 57, 78, 42, 16, 59, 182, 0, 61, 45, 176]
abbrev dktX19_statement_3 : List UInt8 := dkwX19_statement_3 ++ []
def dkwX19_statement_2 : List UInt8 := [182, 0, 38, 42, 89, 180, 0, 22, 4, 96, 181, 0, 22, 28, 16, 116, 160, 0, 11, 42, 27, 182, 0, 53]
abbrev dktX19_statement_2 : List UInt8 := dkwX19_statement_2 ++ dktX19_statement_3
def dkwX19_statement_1 : List UInt8 := [16, 97, 159, 0, 15, 28, 16, 104, 159, 0, 9, 28, 16, 99, 160, 0, 7, 4, 167, 0, 4, 3]
abbrev dktX19_statement_1 : List UInt8 := dkwX19_statement_1 ++ dktX19_statement_2
def dkwX19_statement_0 : List UInt8 := [42, 180, 0, 22, 60, 42, 182, 0, 34, 61, 42, 28, 16, 116, 159, 0, 27, 28, 16, 110, 159, 0, 21, 28]
abbrev dktX19_statement_0 : List UInt8 := dkwX19_statement_0 ++ dktX19_statement_1
theorem dksX19_statement_0 : cX19_statement.data.toList.drop 0 = dktX19_statement_0 := by decide +kernel
theorem dksX19_statement_1 : cX19_statement.data.toList.drop 24 = dktX19_statement_1 := dk_seg dksX19_statement_0 24 rfl rfl
theorem dksX19_statement_2 : cX19_statement.data.toList.drop 46 = dktX19_statement_2 := dk_seg dksX19_statement_1 22 rfl rfl
theorem dksX19_statement_3 : cX19_statement.data.toList.drop 70 = dktX19_statement_3 := dk_seg dksX19_statement_2 24 rfl rfl
theorem dX19_statement_0 : decode cX19_statement 0 = .ok (.aload_n 0, 1) := dk_42 (dk_at dksX19_statement_0 0 rfl rfl)
theorem dX19_statement_1 : decode cX19_statement 1 = .ok (.getfield 22, 3) := dk_180 0 22 (dk_at dksX19_statement_0 1 rfl rfl)
theorem dX19_statement_4 : decode cX19_statement 4 = .ok (.istore_n 1, 1) := dk_60 (dk_at dksX19_statement_0 4 rfl rfl)
theorem dX19_statement_5 : decode cX19_statement 5 = .ok (.aload_n 0, 1) := dk_42 (dk_at dksX19_statement_0 5 rfl rfl)
theorem dX19_statement_6 : decode cX19_statement 6 = .ok (.invokevirtual 34, 3) := dk_182 0 34 (dk_at dksX19_statement_0 6 rfl rfl)
theorem dX19_statement_9 : decode cX19_statement 9 = .ok (.istore_n 2, 1) := dk_61 (dk_at dksX19_statement_0 9 rfl rfl)
theorem dX19_statement_10 : decode cX19_statement 10 = .ok (.aload_n 0, 1) := dk_42 (dk_at dksX19_statement_0 10 rfl rfl)
theorem dX19_statement_11 : decode cX19_statement 11 = .ok (.iload_n 2, 1) := dk_28 (dk_at dksX19_statement_0 11 rfl rfl)
theorem dX19_statement_12 : decode cX19_statement 12 = .ok (.bipush 116, 2) := dk_16 116 (dk_at dksX19_statement_0 12 rfl rfl)
theorem dX19_statement_14 : decode cX19_statement 14 = .ok (.if_icmp .eq 27, 3) := dk_159 0 27 (dk_at dksX19_statement_0 14 rfl rfl)
theorem dX19_statement_17 : decode cX19_statement 17 = .ok (.iload_n 2, 1) := dk_28 (dk_at dksX19_statement_0 17 rfl rfl)
theorem dX19_statement_18 : decode cX19_statement 18 = .ok (.bipush 110, 2) := dk_16 110 (dk_at dksX19_statement_0 18 rfl rfl)
theorem dX19_statement_20 : decode cX19_statement 20 = .ok (.if_icmp .eq 21, 3) := dk_159 0 21 (dk_at dksX19_statement_0 20 rfl rfl)
theorem dX19_statement_23 : decode cX19_statement 23 = .ok (.iload_n 2, 1) := dk_28 (dk_at dksX19_statement_0 23 rfl rfl)
theorem dX19_statement_24 : decode cX19_statement 24 = .ok (.bipush 97, 2) := dk_16 97 (dk_at dksX19_statement_1 0 rfl rfl)
theorem dX19_statement_26 : decode cX19_statement 26 = .ok (.if_icmp .eq 15, 3) := dk_159 0 15 (dk_at dksX19_statement_1 2 rfl rfl)
theorem dX19_statement_29 : decode cX19_statement 29 = .ok (.iload_n 2, 1) := dk_28 (dk_at dksX19_statement_1 5 rfl rfl)
theorem dX19_statement_30 : decode cX19_statement 30 = .ok (.bipush 104, 2) := dk_16 104 (dk_at dksX19_statement_1 6 rfl rfl)
theorem dX19_statement_32 : decode cX19_statement 32 = .ok (.if_icmp .eq 9, 3) := dk_159 0 9 (dk_at dksX19_statement_1 8 rfl rfl)
theorem dX19_statement_35 : decode cX19_statement 35 = .ok (.iload_n 2, 1) := dk_28 (dk_at dksX19_statement_1 11 rfl rfl)
theorem dX19_statement_36 : decode cX19_statement 36 = .ok (.bipush 99, 2) := dk_16 99 (dk_at dksX19_statement_1 12 rfl rfl)
theorem dX19_statement_38 : decode cX19_statement 38 = .ok (.if_icmp .ne 7, 3) := dk_160 0 7 (dk_at dksX19_statement_1 14 rfl rfl)
theorem dX19_statement_41 : decode cX19_statement 41 = .ok (.iconst 1, 1) := dk_4 (dk_at dksX19_statement_1 17 rfl rfl)
theorem dX19_statement_42 : decode cX19_statement 42 = .ok (.goto 4, 3) := dk_167 0 4 (dk_at dksX19_statement_1 18 rfl rfl)
theorem dX19_statement_45 : decode cX19_statement 45 = .ok (.iconst 0, 1) := dk_3 (dk_at dksX19_statement_1 21 rfl rfl)
theorem dX19_statement_46 : decode cX19_statement 46 = .ok (.invokevirtual 38, 3) := dk_182 0 38 (dk_at dksX19_statement_2 0 rfl rfl)
theorem dX19_statement_49 : decode cX19_statement 49 = .ok (.aload_n 0, 1) := dk_42 (dk_at dksX19_statement_2 3 rfl rfl)
theorem dX19_statement_50 : decode cX19_statement 50 = .ok (.dup, 1) := dk_89 (dk_at dksX19_statement_2 4 rfl rfl)
theorem dX19_statement_51 : decode cX19_statement 51 = .ok (.getfield 22, 3) := dk_180 0 22 (dk_at dksX19_statement_2 5 rfl rfl)
theorem dX19_statement_54 : decode cX19_statement 54 = .ok (.iconst 1, 1) := dk_4 (dk_at dksX19_statement_2 8 rfl rfl)
theorem dX19_statement_55 : decode cX19_statement 55 = .ok (.iadd, 1) := dk_96 (dk_at dksX19_statement_2 9 rfl rfl)
theorem dX19_statement_56 : decode cX19_statement 56 = .ok (.putfield 22, 3) := dk_181 0 22 (dk_at dksX19_statement_2 10 rfl rfl)
theorem dX19_statement_59 : decode cX19_statement 59 = .ok (.iload_n 2, 1) := dk_28 (dk_at dksX19_statement_2 13 rfl rfl)
theorem dX19_statement_60 : decode cX19_statement 60 = .ok (.bipush 116, 2) := dk_16 116 (dk_at dksX19_statement_2 14 rfl rfl)
theorem dX19_statement_62 : decode cX19_statement 62 = .ok (.if_icmp .ne 11, 3) := dk_160 0 11 (dk_at dksX19_statement_2 16 rfl rfl)
theorem dX19_statement_65 : decode cX19_statement 65 = .ok (.aload_n 0, 1) := dk_42 (dk_at dksX19_statement_2 19 rfl rfl)
theorem dX19_statement_66 : decode cX19_statement 66 = .ok (.iload_n 1, 1) := dk_27 (dk_at dksX19_statement_2 20 rfl rfl)
theorem dX19_statement_67 : decode cX19_statement 67 = .ok (.invokevirtual 53, 3) := dk_182 0 53 (dk_at dksX19_statement_2 21 rfl rfl)
theorem dX19_statement_70 : decode cX19_statement 70 = .ok (.goto 9, 3) := dk_167 0 9 (dk_at dksX19_statement_3 0 rfl rfl)
theorem dX19_statement_73 : decode cX19_statement 73 = .ok (.aload_n 0, 1) := dk_42 (dk_at dksX19_statement_3 3 rfl rfl)
theorem dX19_statement_74 : decode cX19_statement 74 = .ok (.iload_n 2, 1) := dk_28 (dk_at dksX19_statement_3 4 rfl rfl)
theorem dX19_statement_75 : decode cX19_statement 75 = .ok (.iload_n 1, 1) := dk_27 (dk_at dksX19_statement_3 5 rfl rfl)
theorem dX19_statement_76 : decode cX19_statement 76 = .ok (.invokevirtual 57, 3) := dk_182 0 57 (dk_at dksX19_statement_3 6 rfl rfl)
theorem dX19_statement_79 : decode cX19_statement 79 = .ok (.astore_n 3, 1) := dk_78 (dk_at dksX19_statement_3 9 rfl rfl)
theorem dX19_statement_80 : decode cX19_statement 80 = .ok (.aload_n 0, 1) := dk_42 (dk_at dksX19_statement_3 10 rfl rfl)
theorem dX19_statement_81 : decode cX19_statement 81 = .ok (.bipush 59, 2) := dk_16 59 (dk_at dksX19_statement_3 11 rfl rfl)
theorem dX19_statement_83 : decode cX19_statement 83 = .ok (.invokevirtual 61, 3) := dk_182 0 61 (dk_at dksX19_statement_3 13 rfl rfl)
theorem dX19_statement_86 : decode cX19_statement 86 = .ok (.aload_n 3, 1) := dk_45 (dk_at dksX19_statement_3 16 rfl rfl)
theorem dX19_statement_87 : decode cX19_statement 87 = .ok (.areturn, 1) := dk_176 (dk_at dksX19_statement_3 17 rfl rfl)
abbrev cX19_here : ByteArray := prog_17_method_2_code
def yX19_here : MethodName := ⟨RX19, "here", "()I"⟩
def dkwX19_here_1 : List UInt8 := [167, 0, 4, 2, 172]
abbrev dktX19_here_1 : List UInt8 := dkwX19_here_1 ++ []
def dkwX19_here_0 : List UInt8 := [42, 180, 0, 22, 42, 180, 0, 19, 162, 0, 18, 42, 180, 0, 1, 180, 0, 25, 42, 180, 0, 22, 52]
abbrev dktX19_here_0 : List UInt8 := dkwX19_here_0 ++ dktX19_here_1
theorem dksX19_here_0 : cX19_here.data.toList.drop 0 = dktX19_here_0 := by decide +kernel
theorem dksX19_here_1 : cX19_here.data.toList.drop 23 = dktX19_here_1 := dk_seg dksX19_here_0 23 rfl rfl
theorem dX19_here_0 : decode cX19_here 0 = .ok (.aload_n 0, 1) := dk_42 (dk_at dksX19_here_0 0 rfl rfl)
theorem dX19_here_1 : decode cX19_here 1 = .ok (.getfield 22, 3) := dk_180 0 22 (dk_at dksX19_here_0 1 rfl rfl)
theorem dX19_here_4 : decode cX19_here 4 = .ok (.aload_n 0, 1) := dk_42 (dk_at dksX19_here_0 4 rfl rfl)
theorem dX19_here_5 : decode cX19_here 5 = .ok (.getfield 19, 3) := dk_180 0 19 (dk_at dksX19_here_0 5 rfl rfl)
theorem dX19_here_8 : decode cX19_here 8 = .ok (.if_icmp .ge 18, 3) := dk_162 0 18 (dk_at dksX19_here_0 8 rfl rfl)
theorem dX19_here_11 : decode cX19_here 11 = .ok (.aload_n 0, 1) := dk_42 (dk_at dksX19_here_0 11 rfl rfl)
theorem dX19_here_12 : decode cX19_here 12 = .ok (.getfield 1, 3) := dk_180 0 1 (dk_at dksX19_here_0 12 rfl rfl)
theorem dX19_here_15 : decode cX19_here 15 = .ok (.getfield 25, 3) := dk_180 0 25 (dk_at dksX19_here_0 15 rfl rfl)
theorem dX19_here_18 : decode cX19_here 18 = .ok (.aload_n 0, 1) := dk_42 (dk_at dksX19_here_0 18 rfl rfl)
theorem dX19_here_19 : decode cX19_here 19 = .ok (.getfield 22, 3) := dk_180 0 22 (dk_at dksX19_here_0 19 rfl rfl)
theorem dX19_here_22 : decode cX19_here 22 = .ok (.caload, 1) := dk_52 (dk_at dksX19_here_0 22 rfl rfl)
theorem dX19_here_23 : decode cX19_here 23 = .ok (.goto 4, 3) := dk_167 0 4 (dk_at dksX19_here_1 0 rfl rfl)
theorem dX19_here_26 : decode cX19_here 26 = .ok (.iconst (-1), 1) := dk_2 (dk_at dksX19_here_1 3 rfl rfl)
theorem dX19_here_27 : decode cX19_here 27 = .ok (.ireturn, 1) := dk_172 (dk_at dksX19_here_1 4 rfl rfl)
abbrev cX19_mustStand : ByteArray := prog_17_method_3_code
def yX19_mustStand : MethodName := ⟨RX19, "mustStand", "(Z)V"⟩
def dkwX19_mustStand_0 : List UInt8 := [27, 154, 0, 19, 187, 0, 29, 89, 17, 252, 24, 42, 180, 0, 22, 100, 183, 0, 31, 191, 177]
abbrev dktX19_mustStand_0 : List UInt8 := dkwX19_mustStand_0 ++ []
theorem dksX19_mustStand_0 : cX19_mustStand.data.toList.drop 0 = dktX19_mustStand_0 := by decide +kernel
theorem dX19_mustStand_0 : decode cX19_mustStand 0 = .ok (.iload_n 1, 1) := dk_27 (dk_at dksX19_mustStand_0 0 rfl rfl)
theorem dX19_mustStand_1 : decode cX19_mustStand 1 = .ok (.ifCond .ne 19, 3) := dk_154 0 19 (dk_at dksX19_mustStand_0 1 rfl rfl)
theorem dX19_mustStand_4 : decode cX19_mustStand 4 = .ok (.new 29, 3) := dk_187 0 29 (dk_at dksX19_mustStand_0 4 rfl rfl)
theorem dX19_mustStand_7 : decode cX19_mustStand 7 = .ok (.dup, 1) := dk_89 (dk_at dksX19_mustStand_0 7 rfl rfl)
theorem dX19_mustStand_8 : decode cX19_mustStand 8 = .ok (.sipush (-1000), 3) := dk_17 252 24 (dk_at dksX19_mustStand_0 8 rfl rfl)
theorem dX19_mustStand_11 : decode cX19_mustStand 11 = .ok (.aload_n 0, 1) := dk_42 (dk_at dksX19_mustStand_0 11 rfl rfl)
theorem dX19_mustStand_12 : decode cX19_mustStand 12 = .ok (.getfield 22, 3) := dk_180 0 22 (dk_at dksX19_mustStand_0 12 rfl rfl)
theorem dX19_mustStand_15 : decode cX19_mustStand 15 = .ok (.isub, 1) := dk_100 (dk_at dksX19_mustStand_0 15 rfl rfl)
theorem dX19_mustStand_16 : decode cX19_mustStand 16 = .ok (.invokespecial 31, 3) := dk_183 0 31 (dk_at dksX19_mustStand_0 16 rfl rfl)
theorem dX19_mustStand_19 : decode cX19_mustStand 19 = .ok (.athrow, 1) := dk_191 (dk_at dksX19_mustStand_0 19 rfl rfl)
theorem dX19_mustStand_20 : decode cX19_mustStand 20 = .ok (.return_, 1) := dk_177 (dk_at dksX19_mustStand_0 20 rfl rfl)
abbrev cX19_thing : ByteArray := prog_17_method_9_code
def yX19_thing : MethodName := ⟨RX19, "thing", "(I)LWithoutThem$Told;"⟩
def dkwX19_thing_2 : List UInt8 := [42, 180, 0, 1, 180, 0, 87, 28, 50, 29, 42, 182, 0, 82, 183, 0, 91, 176]
abbrev dktX19_thing_2 : List UInt8 := dkwX19_thing_2 ++ []
def dkwX19_thing_1 : List UInt8 := [180, 0, 22, 4, 96, 181, 0, 22, 42, 182, 0, 82, 62, 42, 16, 44, 182, 0, 61, 187, 0, 85, 89, 27]
abbrev dktX19_thing_1 : List UInt8 := dkwX19_thing_1 ++ dktX19_thing_2
def dkwX19_thing_0 : List UInt8 := [42, 42, 182, 0, 34, 182, 0, 78, 61, 42, 28, 155, 0, 7, 4, 167, 0, 4, 3, 182, 0, 38, 42, 89]
abbrev dktX19_thing_0 : List UInt8 := dkwX19_thing_0 ++ dktX19_thing_1
theorem dksX19_thing_0 : cX19_thing.data.toList.drop 0 = dktX19_thing_0 := by decide +kernel
theorem dksX19_thing_1 : cX19_thing.data.toList.drop 24 = dktX19_thing_1 := dk_seg dksX19_thing_0 24 rfl rfl
theorem dksX19_thing_2 : cX19_thing.data.toList.drop 48 = dktX19_thing_2 := dk_seg dksX19_thing_1 24 rfl rfl
theorem dX19_thing_0 : decode cX19_thing 0 = .ok (.aload_n 0, 1) := dk_42 (dk_at dksX19_thing_0 0 rfl rfl)
theorem dX19_thing_1 : decode cX19_thing 1 = .ok (.aload_n 0, 1) := dk_42 (dk_at dksX19_thing_0 1 rfl rfl)
theorem dX19_thing_2 : decode cX19_thing 2 = .ok (.invokevirtual 34, 3) := dk_182 0 34 (dk_at dksX19_thing_0 2 rfl rfl)
theorem dX19_thing_5 : decode cX19_thing 5 = .ok (.invokevirtual 78, 3) := dk_182 0 78 (dk_at dksX19_thing_0 5 rfl rfl)
theorem dX19_thing_8 : decode cX19_thing 8 = .ok (.istore_n 2, 1) := dk_61 (dk_at dksX19_thing_0 8 rfl rfl)
theorem dX19_thing_9 : decode cX19_thing 9 = .ok (.aload_n 0, 1) := dk_42 (dk_at dksX19_thing_0 9 rfl rfl)
theorem dX19_thing_10 : decode cX19_thing 10 = .ok (.iload_n 2, 1) := dk_28 (dk_at dksX19_thing_0 10 rfl rfl)
theorem dX19_thing_11 : decode cX19_thing 11 = .ok (.ifCond .lt 7, 3) := dk_155 0 7 (dk_at dksX19_thing_0 11 rfl rfl)
theorem dX19_thing_14 : decode cX19_thing 14 = .ok (.iconst 1, 1) := dk_4 (dk_at dksX19_thing_0 14 rfl rfl)
theorem dX19_thing_15 : decode cX19_thing 15 = .ok (.goto 4, 3) := dk_167 0 4 (dk_at dksX19_thing_0 15 rfl rfl)
theorem dX19_thing_18 : decode cX19_thing 18 = .ok (.iconst 0, 1) := dk_3 (dk_at dksX19_thing_0 18 rfl rfl)
theorem dX19_thing_19 : decode cX19_thing 19 = .ok (.invokevirtual 38, 3) := dk_182 0 38 (dk_at dksX19_thing_0 19 rfl rfl)
theorem dX19_thing_22 : decode cX19_thing 22 = .ok (.aload_n 0, 1) := dk_42 (dk_at dksX19_thing_0 22 rfl rfl)
theorem dX19_thing_23 : decode cX19_thing 23 = .ok (.dup, 1) := dk_89 (dk_at dksX19_thing_0 23 rfl rfl)
theorem dX19_thing_24 : decode cX19_thing 24 = .ok (.getfield 22, 3) := dk_180 0 22 (dk_at dksX19_thing_1 0 rfl rfl)
theorem dX19_thing_27 : decode cX19_thing 27 = .ok (.iconst 1, 1) := dk_4 (dk_at dksX19_thing_1 3 rfl rfl)
theorem dX19_thing_28 : decode cX19_thing 28 = .ok (.iadd, 1) := dk_96 (dk_at dksX19_thing_1 4 rfl rfl)
theorem dX19_thing_29 : decode cX19_thing 29 = .ok (.putfield 22, 3) := dk_181 0 22 (dk_at dksX19_thing_1 5 rfl rfl)
theorem dX19_thing_32 : decode cX19_thing 32 = .ok (.aload_n 0, 1) := dk_42 (dk_at dksX19_thing_1 8 rfl rfl)
theorem dX19_thing_33 : decode cX19_thing 33 = .ok (.invokevirtual 82, 3) := dk_182 0 82 (dk_at dksX19_thing_1 9 rfl rfl)
theorem dX19_thing_36 : decode cX19_thing 36 = .ok (.istore_n 3, 1) := dk_62 (dk_at dksX19_thing_1 12 rfl rfl)
theorem dX19_thing_37 : decode cX19_thing 37 = .ok (.aload_n 0, 1) := dk_42 (dk_at dksX19_thing_1 13 rfl rfl)
theorem dX19_thing_38 : decode cX19_thing 38 = .ok (.bipush 44, 2) := dk_16 44 (dk_at dksX19_thing_1 14 rfl rfl)
theorem dX19_thing_40 : decode cX19_thing 40 = .ok (.invokevirtual 61, 3) := dk_182 0 61 (dk_at dksX19_thing_1 16 rfl rfl)
theorem dX19_thing_43 : decode cX19_thing 43 = .ok (.new 85, 3) := dk_187 0 85 (dk_at dksX19_thing_1 19 rfl rfl)
theorem dX19_thing_46 : decode cX19_thing 46 = .ok (.dup, 1) := dk_89 (dk_at dksX19_thing_1 22 rfl rfl)
theorem dX19_thing_47 : decode cX19_thing 47 = .ok (.iload_n 1, 1) := dk_27 (dk_at dksX19_thing_1 23 rfl rfl)
theorem dX19_thing_48 : decode cX19_thing 48 = .ok (.aload_n 0, 1) := dk_42 (dk_at dksX19_thing_2 0 rfl rfl)
theorem dX19_thing_49 : decode cX19_thing 49 = .ok (.getfield 1, 3) := dk_180 0 1 (dk_at dksX19_thing_2 1 rfl rfl)
theorem dX19_thing_52 : decode cX19_thing 52 = .ok (.getfield 87, 3) := dk_180 0 87 (dk_at dksX19_thing_2 4 rfl rfl)
theorem dX19_thing_55 : decode cX19_thing 55 = .ok (.iload_n 2, 1) := dk_28 (dk_at dksX19_thing_2 7 rfl rfl)
theorem dX19_thing_56 : decode cX19_thing 56 = .ok (.aaload, 1) := dk_50 (dk_at dksX19_thing_2 8 rfl rfl)
theorem dX19_thing_57 : decode cX19_thing 57 = .ok (.iload_n 3, 1) := dk_29 (dk_at dksX19_thing_2 9 rfl rfl)
theorem dX19_thing_58 : decode cX19_thing 58 = .ok (.aload_n 0, 1) := dk_42 (dk_at dksX19_thing_2 10 rfl rfl)
theorem dX19_thing_59 : decode cX19_thing 59 = .ok (.invokevirtual 82, 3) := dk_182 0 82 (dk_at dksX19_thing_2 11 rfl rfl)
theorem dX19_thing_62 : decode cX19_thing 62 = .ok (.invokespecial 91, 3) := dk_183 0 91 (dk_at dksX19_thing_2 14 rfl rfl)
theorem dX19_thing_65 : decode cX19_thing 65 = .ok (.areturn, 1) := dk_176 (dk_at dksX19_thing_2 17 rfl rfl)
abbrev cX19_kindOf : ByteArray := prog_17_method_10_code
def yX19_kindOf : MethodName := ⟨RX19, "kindOf", "(I)I"⟩
def dkwX19_kindOf_2 : List UInt8 := [3, 172, 4, 172, 5, 172, 6, 172, 7, 172, 8, 172, 2, 172]
abbrev dktX19_kindOf_2 : List UInt8 := dkwX19_kindOf_2 ++ []
def dkwX19_kindOf_1 : List UInt8 := [171, 0, 0, 0, 0, 0, 71, 0, 0, 0, 6, 0, 0, 0, 98, 0, 0, 0, 61, 0, 0, 0, 102, 0, 0, 0, 65, 0, 0, 0, 108, 0, 0, 0, 63, 0, 0, 0, 112, 0, 0, 0, 69, 0, 0, 0, 116, 0, 0, 0, 59, 0, 0, 0, 119, 0, 0, 0, 67]
abbrev dktX19_kindOf_1 : List UInt8 := dkwX19_kindOf_1 ++ dktX19_kindOf_2
def dkwX19_kindOf_0 : List UInt8 := [27]
abbrev dktX19_kindOf_0 : List UInt8 := dkwX19_kindOf_0 ++ dktX19_kindOf_1
theorem dksX19_kindOf_0 : cX19_kindOf.data.toList.drop 0 = dktX19_kindOf_0 := by decide +kernel
theorem dksX19_kindOf_1 : cX19_kindOf.data.toList.drop 1 = dktX19_kindOf_1 := dk_seg dksX19_kindOf_0 1 rfl rfl
theorem dksX19_kindOf_2 : cX19_kindOf.data.toList.drop 60 = dktX19_kindOf_2 := dk_seg dksX19_kindOf_1 59 rfl rfl
theorem dX19_kindOf_0 : decode cX19_kindOf 0 = .ok (.iload_n 1, 1) := dk_27 (dk_at dksX19_kindOf_0 0 rfl rfl)
theorem dX19_kindOf_1 : decode cX19_kindOf 1 = .ok (.lookupswitch 71 #[(98, 61), (102, 65), (108, 63), (112, 69), (116, 59), (119, 67)], 59) := by decide +kernel
theorem dX19_kindOf_60 : decode cX19_kindOf 60 = .ok (.iconst 0, 1) := dk_3 (dk_at dksX19_kindOf_2 0 rfl rfl)
theorem dX19_kindOf_61 : decode cX19_kindOf 61 = .ok (.ireturn, 1) := dk_172 (dk_at dksX19_kindOf_2 1 rfl rfl)
theorem dX19_kindOf_62 : decode cX19_kindOf 62 = .ok (.iconst 1, 1) := dk_4 (dk_at dksX19_kindOf_2 2 rfl rfl)
theorem dX19_kindOf_63 : decode cX19_kindOf 63 = .ok (.ireturn, 1) := dk_172 (dk_at dksX19_kindOf_2 3 rfl rfl)
theorem dX19_kindOf_64 : decode cX19_kindOf 64 = .ok (.iconst 2, 1) := dk_5 (dk_at dksX19_kindOf_2 4 rfl rfl)
theorem dX19_kindOf_65 : decode cX19_kindOf 65 = .ok (.ireturn, 1) := dk_172 (dk_at dksX19_kindOf_2 5 rfl rfl)
theorem dX19_kindOf_66 : decode cX19_kindOf 66 = .ok (.iconst 3, 1) := dk_6 (dk_at dksX19_kindOf_2 6 rfl rfl)
theorem dX19_kindOf_67 : decode cX19_kindOf 67 = .ok (.ireturn, 1) := dk_172 (dk_at dksX19_kindOf_2 7 rfl rfl)
theorem dX19_kindOf_68 : decode cX19_kindOf 68 = .ok (.iconst 4, 1) := dk_7 (dk_at dksX19_kindOf_2 8 rfl rfl)
theorem dX19_kindOf_69 : decode cX19_kindOf 69 = .ok (.ireturn, 1) := dk_172 (dk_at dksX19_kindOf_2 9 rfl rfl)
theorem dX19_kindOf_70 : decode cX19_kindOf 70 = .ok (.iconst 5, 1) := dk_8 (dk_at dksX19_kindOf_2 10 rfl rfl)
theorem dX19_kindOf_71 : decode cX19_kindOf 71 = .ok (.ireturn, 1) := dk_172 (dk_at dksX19_kindOf_2 11 rfl rfl)
theorem dX19_kindOf_72 : decode cX19_kindOf 72 = .ok (.iconst (-1), 1) := dk_2 (dk_at dksX19_kindOf_2 12 rfl rfl)
theorem dX19_kindOf_73 : decode cX19_kindOf 73 = .ok (.ireturn, 1) := dk_172 (dk_at dksX19_kindOf_2 13 rfl rfl)
abbrev cX19_number : ByteArray := prog_17_method_6_code
def yX19_number : MethodName := ⟨RX19, "number", "()I"⟩
def dkwX19_number_1 : List UInt8 := [27, 104, 42, 182, 0, 50, 96, 167, 0, 4, 27, 172]
abbrev dktX19_number_1 : List UInt8 := dkwX19_number_1 ++ []
def dkwX19_number_0 : List UInt8 := [42, 182, 0, 50, 60, 42, 182, 0, 34, 133, 20, 0, 42, 20, 0, 44, 184, 0, 46, 153, 0, 15, 16, 10]
abbrev dktX19_number_0 : List UInt8 := dkwX19_number_0 ++ dktX19_number_1
theorem dksX19_number_0 : cX19_number.data.toList.drop 0 = dktX19_number_0 := by decide +kernel
theorem dksX19_number_1 : cX19_number.data.toList.drop 24 = dktX19_number_1 := dk_seg dksX19_number_0 24 rfl rfl
theorem dX19_number_0 : decode cX19_number 0 = .ok (.aload_n 0, 1) := dk_42 (dk_at dksX19_number_0 0 rfl rfl)
theorem dX19_number_1 : decode cX19_number 1 = .ok (.invokevirtual 50, 3) := dk_182 0 50 (dk_at dksX19_number_0 1 rfl rfl)
theorem dX19_number_4 : decode cX19_number 4 = .ok (.istore_n 1, 1) := dk_60 (dk_at dksX19_number_0 4 rfl rfl)
theorem dX19_number_5 : decode cX19_number 5 = .ok (.aload_n 0, 1) := dk_42 (dk_at dksX19_number_0 5 rfl rfl)
theorem dX19_number_6 : decode cX19_number 6 = .ok (.invokevirtual 34, 3) := dk_182 0 34 (dk_at dksX19_number_0 6 rfl rfl)
theorem dX19_number_9 : decode cX19_number 9 = .ok (.i2l, 1) := dk_133 (dk_at dksX19_number_0 9 rfl rfl)
theorem dX19_number_10 : decode cX19_number 10 = .ok (.ldc2_w 42, 3) := dk_20 0 42 (dk_at dksX19_number_0 10 rfl rfl)
theorem dX19_number_13 : decode cX19_number 13 = .ok (.ldc2_w 44, 3) := dk_20 0 44 (dk_at dksX19_number_0 13 rfl rfl)
theorem dX19_number_16 : decode cX19_number 16 = .ok (.invokestatic 46, 3) := dk_184 0 46 (dk_at dksX19_number_0 16 rfl rfl)
theorem dX19_number_19 : decode cX19_number 19 = .ok (.ifCond .eq 15, 3) := dk_153 0 15 (dk_at dksX19_number_0 19 rfl rfl)
theorem dX19_number_22 : decode cX19_number 22 = .ok (.bipush 10, 2) := dk_16 10 (dk_at dksX19_number_0 22 rfl rfl)
theorem dX19_number_24 : decode cX19_number 24 = .ok (.iload_n 1, 1) := dk_27 (dk_at dksX19_number_1 0 rfl rfl)
theorem dX19_number_25 : decode cX19_number 25 = .ok (.imul, 1) := dk_104 (dk_at dksX19_number_1 1 rfl rfl)
theorem dX19_number_26 : decode cX19_number 26 = .ok (.aload_n 0, 1) := dk_42 (dk_at dksX19_number_1 2 rfl rfl)
theorem dX19_number_27 : decode cX19_number 27 = .ok (.invokevirtual 50, 3) := dk_182 0 50 (dk_at dksX19_number_1 3 rfl rfl)
theorem dX19_number_30 : decode cX19_number 30 = .ok (.iadd, 1) := dk_96 (dk_at dksX19_number_1 6 rfl rfl)
theorem dX19_number_31 : decode cX19_number 31 = .ok (.goto 4, 3) := dk_167 0 4 (dk_at dksX19_number_1 7 rfl rfl)
theorem dX19_number_34 : decode cX19_number 34 = .ok (.iload_n 1, 1) := dk_27 (dk_at dksX19_number_1 10 rfl rfl)
theorem dX19_number_35 : decode cX19_number 35 = .ok (.ireturn, 1) := dk_172 (dk_at dksX19_number_1 11 rfl rfl)
abbrev cX19_digit : ByteArray := prog_17_method_5_code
def yX19_digit : MethodName := ⟨RX19, "digit", "()I"⟩
def dkwX19_digit_1 : List UInt8 := [96, 181, 0, 22, 42, 180, 0, 1, 180, 0, 25, 42, 180, 0, 22, 4, 100, 52, 16, 48, 100, 172]
abbrev dktX19_digit_1 : List UInt8 := dkwX19_digit_1 ++ []
def dkwX19_digit_0 : List UInt8 := [42, 42, 182, 0, 34, 133, 20, 0, 42, 20, 0, 44, 184, 0, 46, 182, 0, 38, 42, 89, 180, 0, 22, 4]
abbrev dktX19_digit_0 : List UInt8 := dkwX19_digit_0 ++ dktX19_digit_1
theorem dksX19_digit_0 : cX19_digit.data.toList.drop 0 = dktX19_digit_0 := by decide +kernel
theorem dksX19_digit_1 : cX19_digit.data.toList.drop 24 = dktX19_digit_1 := dk_seg dksX19_digit_0 24 rfl rfl
theorem dX19_digit_0 : decode cX19_digit 0 = .ok (.aload_n 0, 1) := dk_42 (dk_at dksX19_digit_0 0 rfl rfl)
theorem dX19_digit_1 : decode cX19_digit 1 = .ok (.aload_n 0, 1) := dk_42 (dk_at dksX19_digit_0 1 rfl rfl)
theorem dX19_digit_2 : decode cX19_digit 2 = .ok (.invokevirtual 34, 3) := dk_182 0 34 (dk_at dksX19_digit_0 2 rfl rfl)
theorem dX19_digit_5 : decode cX19_digit 5 = .ok (.i2l, 1) := dk_133 (dk_at dksX19_digit_0 5 rfl rfl)
theorem dX19_digit_6 : decode cX19_digit 6 = .ok (.ldc2_w 42, 3) := dk_20 0 42 (dk_at dksX19_digit_0 6 rfl rfl)
theorem dX19_digit_9 : decode cX19_digit 9 = .ok (.ldc2_w 44, 3) := dk_20 0 44 (dk_at dksX19_digit_0 9 rfl rfl)
theorem dX19_digit_12 : decode cX19_digit 12 = .ok (.invokestatic 46, 3) := dk_184 0 46 (dk_at dksX19_digit_0 12 rfl rfl)
theorem dX19_digit_15 : decode cX19_digit 15 = .ok (.invokevirtual 38, 3) := dk_182 0 38 (dk_at dksX19_digit_0 15 rfl rfl)
theorem dX19_digit_18 : decode cX19_digit 18 = .ok (.aload_n 0, 1) := dk_42 (dk_at dksX19_digit_0 18 rfl rfl)
theorem dX19_digit_19 : decode cX19_digit 19 = .ok (.dup, 1) := dk_89 (dk_at dksX19_digit_0 19 rfl rfl)
theorem dX19_digit_20 : decode cX19_digit 20 = .ok (.getfield 22, 3) := dk_180 0 22 (dk_at dksX19_digit_0 20 rfl rfl)
theorem dX19_digit_23 : decode cX19_digit 23 = .ok (.iconst 1, 1) := dk_4 (dk_at dksX19_digit_0 23 rfl rfl)
theorem dX19_digit_24 : decode cX19_digit 24 = .ok (.iadd, 1) := dk_96 (dk_at dksX19_digit_1 0 rfl rfl)
theorem dX19_digit_25 : decode cX19_digit 25 = .ok (.putfield 22, 3) := dk_181 0 22 (dk_at dksX19_digit_1 1 rfl rfl)
theorem dX19_digit_28 : decode cX19_digit 28 = .ok (.aload_n 0, 1) := dk_42 (dk_at dksX19_digit_1 4 rfl rfl)
theorem dX19_digit_29 : decode cX19_digit 29 = .ok (.getfield 1, 3) := dk_180 0 1 (dk_at dksX19_digit_1 5 rfl rfl)
theorem dX19_digit_32 : decode cX19_digit 32 = .ok (.getfield 25, 3) := dk_180 0 25 (dk_at dksX19_digit_1 8 rfl rfl)
theorem dX19_digit_35 : decode cX19_digit 35 = .ok (.aload_n 0, 1) := dk_42 (dk_at dksX19_digit_1 11 rfl rfl)
theorem dX19_digit_36 : decode cX19_digit 36 = .ok (.getfield 22, 3) := dk_180 0 22 (dk_at dksX19_digit_1 12 rfl rfl)
theorem dX19_digit_39 : decode cX19_digit 39 = .ok (.iconst 1, 1) := dk_4 (dk_at dksX19_digit_1 15 rfl rfl)
theorem dX19_digit_40 : decode cX19_digit 40 = .ok (.isub, 1) := dk_100 (dk_at dksX19_digit_1 16 rfl rfl)
theorem dX19_digit_41 : decode cX19_digit 41 = .ok (.caload, 1) := dk_52 (dk_at dksX19_digit_1 17 rfl rfl)
theorem dX19_digit_42 : decode cX19_digit 42 = .ok (.bipush 48, 2) := dk_16 48 (dk_at dksX19_digit_1 18 rfl rfl)
theorem dX19_digit_44 : decode cX19_digit 44 = .ok (.isub, 1) := dk_100 (dk_at dksX19_digit_1 20 rfl rfl)
theorem dX19_digit_45 : decode cX19_digit 45 = .ok (.ireturn, 1) := dk_172 (dk_at dksX19_digit_1 21 rfl rfl)
abbrev cX19_take : ByteArray := prog_17_method_4_code
def yX19_take : MethodName := ⟨RX19, "take", "(I)V"⟩
def dkwX19_take_1 : List UInt8 := [181, 0, 22, 177]
abbrev dktX19_take_1 : List UInt8 := dkwX19_take_1 ++ []
def dkwX19_take_0 : List UInt8 := [42, 42, 182, 0, 34, 27, 160, 0, 7, 4, 167, 0, 4, 3, 182, 0, 38, 42, 89, 180, 0, 22, 4, 96]
abbrev dktX19_take_0 : List UInt8 := dkwX19_take_0 ++ dktX19_take_1
theorem dksX19_take_0 : cX19_take.data.toList.drop 0 = dktX19_take_0 := by decide +kernel
theorem dksX19_take_1 : cX19_take.data.toList.drop 24 = dktX19_take_1 := dk_seg dksX19_take_0 24 rfl rfl
theorem dX19_take_0 : decode cX19_take 0 = .ok (.aload_n 0, 1) := dk_42 (dk_at dksX19_take_0 0 rfl rfl)
theorem dX19_take_1 : decode cX19_take 1 = .ok (.aload_n 0, 1) := dk_42 (dk_at dksX19_take_0 1 rfl rfl)
theorem dX19_take_2 : decode cX19_take 2 = .ok (.invokevirtual 34, 3) := dk_182 0 34 (dk_at dksX19_take_0 2 rfl rfl)
theorem dX19_take_5 : decode cX19_take 5 = .ok (.iload_n 1, 1) := dk_27 (dk_at dksX19_take_0 5 rfl rfl)
theorem dX19_take_6 : decode cX19_take 6 = .ok (.if_icmp .ne 7, 3) := dk_160 0 7 (dk_at dksX19_take_0 6 rfl rfl)
theorem dX19_take_9 : decode cX19_take 9 = .ok (.iconst 1, 1) := dk_4 (dk_at dksX19_take_0 9 rfl rfl)
theorem dX19_take_10 : decode cX19_take 10 = .ok (.goto 4, 3) := dk_167 0 4 (dk_at dksX19_take_0 10 rfl rfl)
theorem dX19_take_13 : decode cX19_take 13 = .ok (.iconst 0, 1) := dk_3 (dk_at dksX19_take_0 13 rfl rfl)
theorem dX19_take_14 : decode cX19_take 14 = .ok (.invokevirtual 38, 3) := dk_182 0 38 (dk_at dksX19_take_0 14 rfl rfl)
theorem dX19_take_17 : decode cX19_take 17 = .ok (.aload_n 0, 1) := dk_42 (dk_at dksX19_take_0 17 rfl rfl)
theorem dX19_take_18 : decode cX19_take 18 = .ok (.dup, 1) := dk_89 (dk_at dksX19_take_0 18 rfl rfl)
theorem dX19_take_19 : decode cX19_take 19 = .ok (.getfield 22, 3) := dk_180 0 22 (dk_at dksX19_take_0 19 rfl rfl)
theorem dX19_take_22 : decode cX19_take 22 = .ok (.iconst 1, 1) := dk_4 (dk_at dksX19_take_0 22 rfl rfl)
theorem dX19_take_23 : decode cX19_take 23 = .ok (.iadd, 1) := dk_96 (dk_at dksX19_take_0 23 rfl rfl)
theorem dX19_take_24 : decode cX19_take 24 = .ok (.putfield 22, 3) := dk_181 0 22 (dk_at dksX19_take_1 0 rfl rfl)
theorem dX19_take_27 : decode cX19_take 27 = .ok (.return_, 1) := dk_177 (dk_at dksX19_take_1 3 rfl rfl)
abbrev cX19_told : ByteArray := prog_17_method_8_code
def yX19_told : MethodName := ⟨RX19, "told", "(II)LWithoutThem$Told;"⟩
def dkwX19_told_4 : List UInt8 := [182, 0, 50, 183, 0, 77, 176]
abbrev dktX19_told_4 : List UInt8 := dkwX19_told_4 ++ []
def dkwX19_told_3 : List UInt8 := [176, 187, 0, 72, 89, 28, 29, 42, 182, 0, 50, 183, 0, 74, 176, 187, 0, 75, 89, 28, 29, 42]
abbrev dktX19_told_3 : List UInt8 := dkwX19_told_3 ++ dktX19_told_4
def dkwX19_told_2 : List UInt8 := [187, 0, 64, 89, 28, 29, 3, 183, 0, 66, 176, 187, 0, 69, 89, 28, 29, 42, 182, 0, 50, 183, 0, 71]
abbrev dktX19_told_2 : List UInt8 := dkwX19_told_2 ++ dktX19_told_3
def dkwX19_told_1 : List UInt8 := [171, 0, 0, 0, 0, 73, 0, 0, 0, 3, 0, 0, 0, 97, 0, 0, 0, 59, 0, 0, 0, 104, 0, 0, 0, 34, 0, 0, 0, 110, 0, 0, 0, 45]
abbrev dktX19_told_1 : List UInt8 := dkwX19_told_1 ++ dktX19_told_2
def dkwX19_told_0 : List UInt8 := [42, 182, 0, 50, 62, 27]
abbrev dktX19_told_0 : List UInt8 := dkwX19_told_0 ++ dktX19_told_1
theorem dksX19_told_0 : cX19_told.data.toList.drop 0 = dktX19_told_0 := by decide +kernel
theorem dksX19_told_1 : cX19_told.data.toList.drop 6 = dktX19_told_1 := dk_seg dksX19_told_0 6 rfl rfl
theorem dksX19_told_2 : cX19_told.data.toList.drop 40 = dktX19_told_2 := dk_seg dksX19_told_1 34 rfl rfl
theorem dksX19_told_3 : cX19_told.data.toList.drop 64 = dktX19_told_3 := dk_seg dksX19_told_2 24 rfl rfl
theorem dksX19_told_4 : cX19_told.data.toList.drop 86 = dktX19_told_4 := dk_seg dksX19_told_3 22 rfl rfl
theorem dX19_told_0 : decode cX19_told 0 = .ok (.aload_n 0, 1) := dk_42 (dk_at dksX19_told_0 0 rfl rfl)
theorem dX19_told_1 : decode cX19_told 1 = .ok (.invokevirtual 50, 3) := dk_182 0 50 (dk_at dksX19_told_0 1 rfl rfl)
theorem dX19_told_4 : decode cX19_told 4 = .ok (.istore_n 3, 1) := dk_62 (dk_at dksX19_told_0 4 rfl rfl)
theorem dX19_told_5 : decode cX19_told 5 = .ok (.iload_n 1, 1) := dk_27 (dk_at dksX19_told_0 5 rfl rfl)
theorem dX19_told_6 : decode cX19_told 6 = .ok (.lookupswitch 73 #[(97, 59), (104, 34), (110, 45)], 34) := by decide +kernel
theorem dX19_told_40 : decode cX19_told 40 = .ok (.new 64, 3) := dk_187 0 64 (dk_at dksX19_told_2 0 rfl rfl)
theorem dX19_told_43 : decode cX19_told 43 = .ok (.dup, 1) := dk_89 (dk_at dksX19_told_2 3 rfl rfl)
theorem dX19_told_44 : decode cX19_told 44 = .ok (.iload_n 2, 1) := dk_28 (dk_at dksX19_told_2 4 rfl rfl)
theorem dX19_told_45 : decode cX19_told 45 = .ok (.iload_n 3, 1) := dk_29 (dk_at dksX19_told_2 5 rfl rfl)
theorem dX19_told_46 : decode cX19_told 46 = .ok (.iconst 0, 1) := dk_3 (dk_at dksX19_told_2 6 rfl rfl)
theorem dX19_told_47 : decode cX19_told 47 = .ok (.invokespecial 66, 3) := dk_183 0 66 (dk_at dksX19_told_2 7 rfl rfl)
theorem dX19_told_50 : decode cX19_told 50 = .ok (.areturn, 1) := dk_176 (dk_at dksX19_told_2 10 rfl rfl)
theorem dX19_told_51 : decode cX19_told 51 = .ok (.new 69, 3) := dk_187 0 69 (dk_at dksX19_told_2 11 rfl rfl)
theorem dX19_told_54 : decode cX19_told 54 = .ok (.dup, 1) := dk_89 (dk_at dksX19_told_2 14 rfl rfl)
theorem dX19_told_55 : decode cX19_told 55 = .ok (.iload_n 2, 1) := dk_28 (dk_at dksX19_told_2 15 rfl rfl)
theorem dX19_told_56 : decode cX19_told 56 = .ok (.iload_n 3, 1) := dk_29 (dk_at dksX19_told_2 16 rfl rfl)
theorem dX19_told_57 : decode cX19_told 57 = .ok (.aload_n 0, 1) := dk_42 (dk_at dksX19_told_2 17 rfl rfl)
theorem dX19_told_58 : decode cX19_told 58 = .ok (.invokevirtual 50, 3) := dk_182 0 50 (dk_at dksX19_told_2 18 rfl rfl)
theorem dX19_told_61 : decode cX19_told 61 = .ok (.invokespecial 71, 3) := dk_183 0 71 (dk_at dksX19_told_2 21 rfl rfl)
theorem dX19_told_64 : decode cX19_told 64 = .ok (.areturn, 1) := dk_176 (dk_at dksX19_told_3 0 rfl rfl)
theorem dX19_told_65 : decode cX19_told 65 = .ok (.new 72, 3) := dk_187 0 72 (dk_at dksX19_told_3 1 rfl rfl)
theorem dX19_told_68 : decode cX19_told 68 = .ok (.dup, 1) := dk_89 (dk_at dksX19_told_3 4 rfl rfl)
theorem dX19_told_69 : decode cX19_told 69 = .ok (.iload_n 2, 1) := dk_28 (dk_at dksX19_told_3 5 rfl rfl)
theorem dX19_told_70 : decode cX19_told 70 = .ok (.iload_n 3, 1) := dk_29 (dk_at dksX19_told_3 6 rfl rfl)
theorem dX19_told_71 : decode cX19_told 71 = .ok (.aload_n 0, 1) := dk_42 (dk_at dksX19_told_3 7 rfl rfl)
theorem dX19_told_72 : decode cX19_told 72 = .ok (.invokevirtual 50, 3) := dk_182 0 50 (dk_at dksX19_told_3 8 rfl rfl)
theorem dX19_told_75 : decode cX19_told 75 = .ok (.invokespecial 74, 3) := dk_183 0 74 (dk_at dksX19_told_3 11 rfl rfl)
theorem dX19_told_78 : decode cX19_told 78 = .ok (.areturn, 1) := dk_176 (dk_at dksX19_told_3 14 rfl rfl)
theorem dX19_told_79 : decode cX19_told 79 = .ok (.new 75, 3) := dk_187 0 75 (dk_at dksX19_told_3 15 rfl rfl)
theorem dX19_told_82 : decode cX19_told 82 = .ok (.dup, 1) := dk_89 (dk_at dksX19_told_3 18 rfl rfl)
theorem dX19_told_83 : decode cX19_told 83 = .ok (.iload_n 2, 1) := dk_28 (dk_at dksX19_told_3 19 rfl rfl)
theorem dX19_told_84 : decode cX19_told 84 = .ok (.iload_n 3, 1) := dk_29 (dk_at dksX19_told_3 20 rfl rfl)
theorem dX19_told_85 : decode cX19_told 85 = .ok (.aload_n 0, 1) := dk_42 (dk_at dksX19_told_3 21 rfl rfl)
theorem dX19_told_86 : decode cX19_told 86 = .ok (.invokevirtual 50, 3) := dk_182 0 50 (dk_at dksX19_told_4 0 rfl rfl)
theorem dX19_told_89 : decode cX19_told 89 = .ok (.invokespecial 77, 3) := dk_183 0 77 (dk_at dksX19_told_4 3 rfl rfl)
theorem dX19_told_92 : decode cX19_told 92 = .ok (.areturn, 1) := dk_176 (dk_at dksX19_told_4 6 rfl rfl)
theorem q103 : (Jvm.Cond.initialized "WithoutThem$Reader") ∈ lw_all := lw_g (lw_at lw_m1 23 rfl) rfl
theorem q276 : (Jvm.Cond.fieldLinkNest "WithoutThem$Reader" (87 : Nat) "WithoutThem" "kinds" "[LWithoutThem$Kind;" "WithoutThem") ∈ lw_tbl := lw_at lw_m1 196 rfl
theorem q285 : (Jvm.Cond.fieldLinkNest "WithoutThem$Reader" (25 : Nat) "WithoutThem" "letters" "[C" "WithoutThem") ∈ lw_tbl := lw_at lw_m1 205 rfl
theorem q287 : (Jvm.Cond.fieldLinkNest "WithoutThem$Reader" (13 : Nat) "WithoutThem" "letterMany" "I" "WithoutThem") ∈ lw_tbl := lw_at lw_m1 207 rfl
theorem q435 : (Jvm.Cond.instantiable "WithoutThem$Reader" (3 : Nat)) ∈ lw_all := lw_g (lw_at lw_m2 115 rfl) rfl
theorem q437 : (Jvm.Cond.instanceMethod ({ cls := "WithoutThem$Reader", name := "<init>", desc := "(LWithoutThem;)V" } : Jvm.MethodName)) ∈ lw_all := lw_g (lw_at lw_m2 117 rfl) rfl
theorem q438 : (Jvm.Cond.code ({ cls := "WithoutThem$Reader", name := "<init>", desc := "(LWithoutThem;)V" } : Jvm.MethodName) prog_17_method_1_code (2 : Nat) (Option.none : Option Jvm.ClassFile.FieldType)) ∈ lw_all := lw_g (lw_at lw_m2 118 rfl) rfl
theorem q439 : (Jvm.Cond.methodLink "WithoutThem$Reader" (7 : Nat) ({ cls := "java/lang/Object", name := "<init>", desc := "()V" } : Jvm.MethodName)) ∈ lw_all := lw_g (lw_at lw_m2 119 rfl) rfl
theorem q440 : (Jvm.Cond.fieldLink "WithoutThem$Reader" (19 : Nat) "WithoutThem$Reader" "size" "I") ∈ lw_all := lw_g (lw_at lw_m2 120 rfl) rfl
theorem q442 : (Jvm.Cond.fieldLink "WithoutThem$Reader" (22 : Nat) "WithoutThem$Reader" "at" "I") ∈ lw_all := lw_g (lw_at lw_m2 122 rfl) rfl
theorem q444 : (Jvm.Cond.fieldLink "WithoutThem$Reader" (1 : Nat) "WithoutThem$Reader" "this$0" "LWithoutThem;") ∈ lw_all := lw_g (lw_at lw_m2 124 rfl) rfl
theorem q445 : (Jvm.Cond.laysFinal "WithoutThem$Reader" "WithoutThem$Reader" "size" "I") ∈ lw_all := lw_g (lw_at lw_m2 125 rfl) rfl
theorem q446 : (Jvm.Cond.soleField "WithoutThem$Reader" "size") ∈ lw_all := lw_g (lw_at lw_m2 126 rfl) rfl
theorem q447 : (Jvm.Cond.lays "WithoutThem$Reader" "WithoutThem$Reader" "at" "I") ∈ lw_all := lw_g (lw_at lw_m2 127 rfl) rfl
theorem q448 : (Jvm.Cond.soleField "WithoutThem$Reader" "at") ∈ lw_all := lw_g (lw_at lw_m2 128 rfl) rfl
theorem q449 : (Jvm.Cond.laysFinal "WithoutThem$Reader" "WithoutThem$Reader" "this$0" "LWithoutThem;") ∈ lw_all := lw_g (lw_at lw_m2 129 rfl) rfl
theorem q450 : (Jvm.Cond.soleField "WithoutThem$Reader" "this$0") ∈ lw_all := lw_g (lw_at lw_m2 130 rfl) rfl
theorem q451 : (Jvm.Cond.superclass "WithoutThem$Reader" "java/lang/Object") ∈ lw_all := lw_g (lw_at lw_m2 131 rfl) rfl
theorem q455 : (Jvm.Cond.instanceMethod ({ cls := "WithoutThem$Reader", name := "statement", desc := "()LWithoutThem$Told;" } : Jvm.MethodName)) ∈ lw_all := lw_g (lw_at lw_m2 135 rfl) rfl
theorem q456 : (Jvm.Cond.selects "WithoutThem$Reader" ({ cls := "WithoutThem$Reader", name := "statement", desc := "()LWithoutThem$Told;" } : Jvm.MethodName) ({ cls := "WithoutThem$Reader", name := "statement", desc := "()LWithoutThem$Told;" } : Jvm.MethodName)) ∈ lw_all := lw_g (lw_at lw_m2 136 rfl) rfl
theorem q457 : (Jvm.Cond.code ({ cls := "WithoutThem$Reader", name := "statement", desc := "()LWithoutThem$Told;" } : Jvm.MethodName) prog_17_method_7_code (4 : Nat) (Option.some (Jvm.ClassFile.FieldType.object "WithoutThem$Told"))) ∈ lw_all := lw_g (lw_at lw_m2 137 rfl) rfl
theorem q458 : (Jvm.Cond.methodLink "WithoutThem$Reader" (34 : Nat) ({ cls := "WithoutThem$Reader", name := "here", desc := "()I" } : Jvm.MethodName)) ∈ lw_all := lw_g (lw_at lw_m2 138 rfl) rfl
theorem q459 : (Jvm.Cond.privateMethod ({ cls := "WithoutThem$Reader", name := "here", desc := "()I" } : Jvm.MethodName)) ∈ lw_tbl := lw_at lw_m2 139 rfl
theorem q460 : (Jvm.Cond.instanceMethod ({ cls := "WithoutThem$Reader", name := "here", desc := "()I" } : Jvm.MethodName)) ∈ lw_all := lw_g (lw_at lw_m2 140 rfl) rfl
theorem q461 : (Jvm.Cond.code ({ cls := "WithoutThem$Reader", name := "here", desc := "()I" } : Jvm.MethodName) prog_17_method_2_code (1 : Nat) (Option.some Jvm.ClassFile.FieldType.int)) ∈ lw_all := lw_g (lw_at lw_m2 141 rfl) rfl
theorem q462 : (Jvm.Cond.methodLink "WithoutThem$Reader" (38 : Nat) ({ cls := "WithoutThem$Reader", name := "mustStand", desc := "(Z)V" } : Jvm.MethodName)) ∈ lw_all := lw_g (lw_at lw_m2 142 rfl) rfl
theorem q463 : (Jvm.Cond.privateMethod ({ cls := "WithoutThem$Reader", name := "mustStand", desc := "(Z)V" } : Jvm.MethodName)) ∈ lw_tbl := lw_at lw_m2 143 rfl
theorem q464 : (Jvm.Cond.instanceMethod ({ cls := "WithoutThem$Reader", name := "mustStand", desc := "(Z)V" } : Jvm.MethodName)) ∈ lw_all := lw_g (lw_at lw_m2 144 rfl) rfl
theorem q465 : (Jvm.Cond.code ({ cls := "WithoutThem$Reader", name := "mustStand", desc := "(Z)V" } : Jvm.MethodName) prog_17_method_3_code (2 : Nat) (Option.none : Option Jvm.ClassFile.FieldType)) ∈ lw_all := lw_g (lw_at lw_m2 145 rfl) rfl
theorem q466 : (Jvm.Cond.classLink "WithoutThem$Reader" (29 : Nat) "WithoutThem$Fault") ∈ lw_all := lw_g (lw_at lw_m2 146 rfl) rfl
theorem q475 : (Jvm.Cond.methodLink "WithoutThem$Reader" (31 : Nat) ({ cls := "WithoutThem$Fault", name := "<init>", desc := "(I)V" } : Jvm.MethodName)) ∈ lw_all := lw_g (lw_at lw_m2 155 rfl) rfl
theorem q484 : (Jvm.Cond.methodLink "WithoutThem$Reader" (53 : Nat) ({ cls := "WithoutThem$Reader", name := "thing", desc := "(I)LWithoutThem$Told;" } : Jvm.MethodName)) ∈ lw_all := lw_g (lw_at lw_m2 164 rfl) rfl
theorem q485 : (Jvm.Cond.privateMethod ({ cls := "WithoutThem$Reader", name := "thing", desc := "(I)LWithoutThem$Told;" } : Jvm.MethodName)) ∈ lw_tbl := lw_at lw_m2 165 rfl
theorem q486 : (Jvm.Cond.instanceMethod ({ cls := "WithoutThem$Reader", name := "thing", desc := "(I)LWithoutThem$Told;" } : Jvm.MethodName)) ∈ lw_all := lw_g (lw_at lw_m2 166 rfl) rfl
theorem q487 : (Jvm.Cond.code ({ cls := "WithoutThem$Reader", name := "thing", desc := "(I)LWithoutThem$Told;" } : Jvm.MethodName) prog_17_method_9_code (4 : Nat) (Option.some (Jvm.ClassFile.FieldType.object "WithoutThem$Told"))) ∈ lw_all := lw_g (lw_at lw_m2 167 rfl) rfl
theorem q488 : (Jvm.Cond.methodLink "WithoutThem$Reader" (78 : Nat) ({ cls := "WithoutThem$Reader", name := "kindOf", desc := "(I)I" } : Jvm.MethodName)) ∈ lw_all := lw_g (lw_at lw_m2 168 rfl) rfl
theorem q489 : (Jvm.Cond.privateMethod ({ cls := "WithoutThem$Reader", name := "kindOf", desc := "(I)I" } : Jvm.MethodName)) ∈ lw_tbl := lw_at lw_m2 169 rfl
theorem q490 : (Jvm.Cond.instanceMethod ({ cls := "WithoutThem$Reader", name := "kindOf", desc := "(I)I" } : Jvm.MethodName)) ∈ lw_all := lw_g (lw_at lw_m2 170 rfl) rfl
theorem q491 : (Jvm.Cond.code ({ cls := "WithoutThem$Reader", name := "kindOf", desc := "(I)I" } : Jvm.MethodName) prog_17_method_10_code (2 : Nat) (Option.some Jvm.ClassFile.FieldType.int)) ∈ lw_all := lw_g (lw_at lw_m2 171 rfl) rfl
theorem q492 : (Jvm.Cond.methodLink "WithoutThem$Reader" (82 : Nat) ({ cls := "WithoutThem$Reader", name := "number", desc := "()I" } : Jvm.MethodName)) ∈ lw_all := lw_g (lw_at lw_m2 172 rfl) rfl
theorem q493 : (Jvm.Cond.privateMethod ({ cls := "WithoutThem$Reader", name := "number", desc := "()I" } : Jvm.MethodName)) ∈ lw_tbl := lw_at lw_m2 173 rfl
theorem q494 : (Jvm.Cond.instanceMethod ({ cls := "WithoutThem$Reader", name := "number", desc := "()I" } : Jvm.MethodName)) ∈ lw_all := lw_g (lw_at lw_m2 174 rfl) rfl
theorem q495 : (Jvm.Cond.code ({ cls := "WithoutThem$Reader", name := "number", desc := "()I" } : Jvm.MethodName) prog_17_method_6_code (2 : Nat) (Option.some Jvm.ClassFile.FieldType.int)) ∈ lw_all := lw_g (lw_at lw_m2 175 rfl) rfl
theorem q496 : (Jvm.Cond.methodLink "WithoutThem$Reader" (50 : Nat) ({ cls := "WithoutThem$Reader", name := "digit", desc := "()I" } : Jvm.MethodName)) ∈ lw_all := lw_g (lw_at lw_m2 176 rfl) rfl
theorem q497 : (Jvm.Cond.privateMethod ({ cls := "WithoutThem$Reader", name := "digit", desc := "()I" } : Jvm.MethodName)) ∈ lw_tbl := lw_at lw_m2 177 rfl
theorem q498 : (Jvm.Cond.instanceMethod ({ cls := "WithoutThem$Reader", name := "digit", desc := "()I" } : Jvm.MethodName)) ∈ lw_all := lw_g (lw_at lw_m2 178 rfl) rfl
theorem q499 : (Jvm.Cond.code ({ cls := "WithoutThem$Reader", name := "digit", desc := "()I" } : Jvm.MethodName) prog_17_method_5_code (1 : Nat) (Option.some Jvm.ClassFile.FieldType.int)) ∈ lw_all := lw_g (lw_at lw_m2 179 rfl) rfl
theorem q500 : (Jvm.Cond.constantLong "WithoutThem$Reader" (42 : Nat) (48 : Int64)) ∈ lw_all := lw_g (lw_at lw_m2 180 rfl) rfl
theorem q501 : (Jvm.Cond.constantLong "WithoutThem$Reader" (44 : Nat) (57 : Int64)) ∈ lw_all := lw_g (lw_at lw_m2 181 rfl) rfl
theorem q502 : (Jvm.Cond.methodLinkNest "WithoutThem$Reader" (46 : Nat) ({ cls := "WithoutThem", name := "in", desc := "(JJJ)Z" } : Jvm.MethodName) "WithoutThem") ∈ lw_tbl := lw_at lw_m2 182 rfl
theorem q505 : (Jvm.Cond.methodLink "WithoutThem$Reader" (61 : Nat) ({ cls := "WithoutThem$Reader", name := "take", desc := "(I)V" } : Jvm.MethodName)) ∈ lw_all := lw_g (lw_at lw_m2 185 rfl) rfl
theorem q506 : (Jvm.Cond.privateMethod ({ cls := "WithoutThem$Reader", name := "take", desc := "(I)V" } : Jvm.MethodName)) ∈ lw_tbl := lw_at lw_m2 186 rfl
theorem q507 : (Jvm.Cond.instanceMethod ({ cls := "WithoutThem$Reader", name := "take", desc := "(I)V" } : Jvm.MethodName)) ∈ lw_all := lw_g (lw_at lw_m2 187 rfl) rfl
theorem q508 : (Jvm.Cond.code ({ cls := "WithoutThem$Reader", name := "take", desc := "(I)V" } : Jvm.MethodName) prog_17_method_4_code (2 : Nat) (Option.none : Option Jvm.ClassFile.FieldType)) ∈ lw_all := lw_g (lw_at lw_m2 188 rfl) rfl
theorem q509 : (Jvm.Cond.classLink "WithoutThem$Reader" (85 : Nat) "WithoutThem$ThingTold") ∈ lw_all := lw_g (lw_at lw_m2 189 rfl) rfl
theorem q511 : (Jvm.Cond.methodLink "WithoutThem$Reader" (91 : Nat) ({ cls := "WithoutThem$ThingTold", name := "<init>", desc := "(ILWithoutThem$Kind;II)V" } : Jvm.MethodName)) ∈ lw_all := lw_g (lw_at lw_m2 191 rfl) rfl
theorem q550 : (Jvm.Cond.methodLink "WithoutThem$Reader" (57 : Nat) ({ cls := "WithoutThem$Reader", name := "told", desc := "(II)LWithoutThem$Told;" } : Jvm.MethodName)) ∈ lw_all := lw_g (lw_at lw_m2 230 rfl) rfl
theorem q551 : (Jvm.Cond.privateMethod ({ cls := "WithoutThem$Reader", name := "told", desc := "(II)LWithoutThem$Told;" } : Jvm.MethodName)) ∈ lw_tbl := lw_at lw_m2 231 rfl
theorem q552 : (Jvm.Cond.instanceMethod ({ cls := "WithoutThem$Reader", name := "told", desc := "(II)LWithoutThem$Told;" } : Jvm.MethodName)) ∈ lw_all := lw_g (lw_at lw_m2 232 rfl) rfl
theorem q553 : (Jvm.Cond.code ({ cls := "WithoutThem$Reader", name := "told", desc := "(II)LWithoutThem$Told;" } : Jvm.MethodName) prog_17_method_8_code (4 : Nat) (Option.some (Jvm.ClassFile.FieldType.object "WithoutThem$Told"))) ∈ lw_all := lw_g (lw_at lw_m2 233 rfl) rfl
theorem q554 : (Jvm.Cond.classLink "WithoutThem$Reader" (64 : Nat) "WithoutThem$HandTold") ∈ lw_all := lw_g (lw_at lw_m2 234 rfl) rfl
theorem q556 : (Jvm.Cond.methodLink "WithoutThem$Reader" (66 : Nat) ({ cls := "WithoutThem$HandTold", name := "<init>", desc := "(III)V" } : Jvm.MethodName)) ∈ lw_all := lw_g (lw_at lw_m2 236 rfl) rfl
theorem q564 : (Jvm.Cond.classLink "WithoutThem$Reader" (69 : Nat) "WithoutThem$AnyTold") ∈ lw_all := lw_g (lw_at lw_m3 4 rfl) rfl
theorem q566 : (Jvm.Cond.methodLink "WithoutThem$Reader" (71 : Nat) ({ cls := "WithoutThem$AnyTold", name := "<init>", desc := "(III)V" } : Jvm.MethodName)) ∈ lw_all := lw_g (lw_at lw_m3 6 rfl) rfl
theorem q574 : (Jvm.Cond.classLink "WithoutThem$Reader" (72 : Nat) "WithoutThem$AllTold") ∈ lw_all := lw_g (lw_at lw_m3 14 rfl) rfl
theorem q576 : (Jvm.Cond.methodLink "WithoutThem$Reader" (74 : Nat) ({ cls := "WithoutThem$AllTold", name := "<init>", desc := "(III)V" } : Jvm.MethodName)) ∈ lw_all := lw_g (lw_at lw_m3 16 rfl) rfl
theorem q584 : (Jvm.Cond.classLink "WithoutThem$Reader" (75 : Nat) "WithoutThem$CostTold") ∈ lw_all := lw_g (lw_at lw_m3 24 rfl) rfl
theorem q586 : (Jvm.Cond.methodLink "WithoutThem$Reader" (77 : Nat) ({ cls := "WithoutThem$CostTold", name := "<init>", desc := "(III)V" } : Jvm.MethodName)) ∈ lw_all := lw_g (lw_at lw_m3 26 rfl) rfl
theorem in_X19 : ∀ w ∈ wsX190, w ∈ lw_all := lw_in wsX190 [445, 447, 449] (by decide +kernel) (by decide +kernel)

/-! WithoutThem$Thing -/
set_option maxRecDepth 100000
def RX2 : String := "WithoutThem$Thing"
abbrev cX2_init : ByteArray := prog_22_method_1_code
def yX2_init : MethodName := ⟨RX2, "<init>", "()V"⟩
theorem dX2_init_0 : decode cX2_init 0 = .ok (.aload_n 0, 1) := by decide +kernel
theorem dX2_init_1 : decode cX2_init 1 = .ok (.invokespecial 1, 3) := by decide +kernel
theorem dX2_init_4 : decode cX2_init 4 = .ok (.return_, 1) := by decide +kernel
abbrev cX2_kind : ByteArray := prog_22_method_2_code
def yX2_kind : MethodName := ⟨RX2, "kind", "()I"⟩
theorem dX2_kind_0 : decode cX2_kind 0 = .ok (.iconst 0, 1) := by decide +kernel
theorem dX2_kind_1 : decode cX2_kind 1 = .ok (.ireturn, 1) := by decide +kernel
abbrev cX2_may : ByteArray := prog_22_method_3_code
def yX2_may : MethodName := ⟨RX2, "may", "(III)Z"⟩
def dkwX2_may_0 : List UInt8 := [27, 153, 0, 9, 27, 29, 126, 153, 0, 15, 28, 29, 2, 130, 126, 154, 0, 7, 4, 167, 0, 4, 3, 172]
abbrev dktX2_may_0 : List UInt8 := dkwX2_may_0 ++ []
theorem dksX2_may_0 : cX2_may.data.toList.drop 0 = dktX2_may_0 := by decide +kernel
theorem dX2_may_0 : decode cX2_may 0 = .ok (.iload_n 1, 1) := dk_27 (dk_at dksX2_may_0 0 rfl rfl)
theorem dX2_may_1 : decode cX2_may 1 = .ok (.ifCond .eq 9, 3) := dk_153 0 9 (dk_at dksX2_may_0 1 rfl rfl)
theorem dX2_may_4 : decode cX2_may 4 = .ok (.iload_n 1, 1) := dk_27 (dk_at dksX2_may_0 4 rfl rfl)
theorem dX2_may_5 : decode cX2_may 5 = .ok (.iload_n 3, 1) := dk_29 (dk_at dksX2_may_0 5 rfl rfl)
theorem dX2_may_6 : decode cX2_may 6 = .ok (.iand, 1) := dk_126 (dk_at dksX2_may_0 6 rfl rfl)
theorem dX2_may_7 : decode cX2_may 7 = .ok (.ifCond .eq 15, 3) := dk_153 0 15 (dk_at dksX2_may_0 7 rfl rfl)
theorem dX2_may_10 : decode cX2_may 10 = .ok (.iload_n 2, 1) := dk_28 (dk_at dksX2_may_0 10 rfl rfl)
theorem dX2_may_11 : decode cX2_may 11 = .ok (.iload_n 3, 1) := dk_29 (dk_at dksX2_may_0 11 rfl rfl)
theorem dX2_may_12 : decode cX2_may 12 = .ok (.iconst (-1), 1) := dk_2 (dk_at dksX2_may_0 12 rfl rfl)
theorem dX2_may_13 : decode cX2_may 13 = .ok (.ixor, 1) := dk_130 (dk_at dksX2_may_0 13 rfl rfl)
theorem dX2_may_14 : decode cX2_may 14 = .ok (.iand, 1) := dk_126 (dk_at dksX2_may_0 14 rfl rfl)
theorem dX2_may_15 : decode cX2_may 15 = .ok (.ifCond .ne 7, 3) := dk_154 0 7 (dk_at dksX2_may_0 15 rfl rfl)
theorem dX2_may_18 : decode cX2_may 18 = .ok (.iconst 1, 1) := dk_4 (dk_at dksX2_may_0 18 rfl rfl)
theorem dX2_may_19 : decode cX2_may 19 = .ok (.goto 4, 3) := dk_167 0 4 (dk_at dksX2_may_0 19 rfl rfl)
theorem dX2_may_22 : decode cX2_may 22 = .ok (.iconst 0, 1) := dk_3 (dk_at dksX2_may_0 22 rfl rfl)
theorem dX2_may_23 : decode cX2_may 23 = .ok (.ireturn, 1) := dk_172 (dk_at dksX2_may_0 23 rfl rfl)
theorem q83 : (Jvm.Cond.initialized "WithoutThem$Thing") ∈ lw_all := lw_g (lw_at lw_m1 3 rfl) rfl
theorem q124 : (Jvm.Cond.instantiable "WithoutThem$Thing" (0 : Nat)) ∈ lw_all := lw_g (lw_at lw_m1 44 rfl) rfl
theorem q126 : (Jvm.Cond.instanceMethod ({ cls := "WithoutThem$Thing", name := "<init>", desc := "()V" } : Jvm.MethodName)) ∈ lw_all := lw_g (lw_at lw_m1 46 rfl) rfl
theorem q127 : (Jvm.Cond.code ({ cls := "WithoutThem$Thing", name := "<init>", desc := "()V" } : Jvm.MethodName) prog_22_method_1_code (1 : Nat) (Option.none : Option Jvm.ClassFile.FieldType)) ∈ lw_all := lw_g (lw_at lw_m1 47 rfl) rfl
theorem q128 : (Jvm.Cond.methodLinkNest "WithoutThem$Thing" (1 : Nat) ({ cls := "WithoutThem$Kind", name := "<init>", desc := "()V" } : Jvm.MethodName) "WithoutThem") ∈ lw_tbl := lw_at lw_m1 48 rfl
theorem q132 : (Jvm.Cond.superclass "WithoutThem$Thing" "WithoutThem$Kind") ∈ lw_all := lw_g (lw_at lw_m1 52 rfl) rfl
theorem q675 : (Jvm.Cond.selects "WithoutThem$Thing" ({ cls := "WithoutThem$Kind", name := "kind", desc := "()I" } : Jvm.MethodName) ({ cls := "WithoutThem$Thing", name := "kind", desc := "()I" } : Jvm.MethodName)) ∈ lw_all := lw_g (lw_at lw_m3 115 rfl) rfl
theorem q676 : (Jvm.Cond.instanceMethod ({ cls := "WithoutThem$Thing", name := "kind", desc := "()I" } : Jvm.MethodName)) ∈ lw_all := lw_g (lw_at lw_m3 116 rfl) rfl
theorem q677 : (Jvm.Cond.code ({ cls := "WithoutThem$Thing", name := "kind", desc := "()I" } : Jvm.MethodName) prog_22_method_2_code (1 : Nat) (Option.some Jvm.ClassFile.FieldType.int)) ∈ lw_all := lw_g (lw_at lw_m3 117 rfl) rfl
theorem q694 : (Jvm.Cond.sameMethod "WithoutThem$Thing" "WithoutThem$Kind" "minutes" "(II)I") ∈ lw_all := lw_g (lw_at lw_m3 134 rfl) rfl
theorem q705 : (Jvm.Cond.selects "WithoutThem$Thing" ({ cls := "WithoutThem$Kind", name := "minutes", desc := "(II)I" } : Jvm.MethodName) ({ cls := "WithoutThem$Kind", name := "minutes", desc := "(II)I" } : Jvm.MethodName)) ∈ lw_all := lw_g (lw_at lw_m3 145 rfl) rfl
theorem q737 : (Jvm.Cond.instanceMethod ({ cls := "WithoutThem$Thing", name := "may", desc := "(III)Z" } : Jvm.MethodName)) ∈ lw_all := lw_g (lw_at lw_m3 177 rfl) rfl
theorem q738 : (Jvm.Cond.code ({ cls := "WithoutThem$Thing", name := "may", desc := "(III)Z" } : Jvm.MethodName) prog_22_method_3_code (4 : Nat) (Option.some Jvm.ClassFile.FieldType.boolean)) ∈ lw_all := lw_g (lw_at lw_m3 178 rfl) rfl
theorem q749 : (Jvm.Cond.selects "WithoutThem$Thing" ({ cls := "WithoutThem$Kind", name := "may", desc := "(III)Z" } : Jvm.MethodName) ({ cls := "WithoutThem$Thing", name := "may", desc := "(III)Z" } : Jvm.MethodName)) ∈ lw_all := lw_g (lw_at lw_m3 189 rfl) rfl
theorem q1437 : (Jvm.Cond.sameMethod "WithoutThem$Thing" "WithoutThem$Thing" "may" "(III)Z") ∈ lw_all := lw_g (lw_at lw_m6 157 rfl) rfl
theorem q1441 : (Jvm.Cond.castable "WithoutThem$Thing" "WithoutThem$Kind") ∈ lw_tbl := lw_at lw_m6 161 rfl

/-! WithoutThem$Fault -/
set_option maxRecDepth 100000
def RX20 : String := "WithoutThem$Fault"
def TX20 : u_T := fun k => match k with
  | 0 => ("java/lang/Throwable", "cause", "Ljava/lang/Throwable;", false)
  | 1 => ("java/lang/Throwable", "stackTrace", "[Ljava/lang/StackTraceElement;", false)
  | 2 => ("java/lang/Throwable", "suppressedExceptions", "Ljava/util/List;", false)
  | 3 => ("java/lang/Throwable", "detailMessage", "Ljava/lang/String;", false)
  | 4 => ("java/lang/Throwable", "backtrace", "Ljava/lang/Object;", false)
  | 5 => ("java/lang/Throwable", "depth", "I", false)
  | _ => ("WithoutThem$Fault", "told", "I", true)
def tyX20 : Nat → FieldType := fun k => match k with
  | 0 => .object "java/lang/Throwable"
  | 1 => .array (.object "java/lang/StackTraceElement")
  | 2 => .object "java/util/List"
  | 3 => .object "java/lang/String"
  | 4 => .object "java/lang/Object"
  | 5 => .int
  | _ => .int
abbrev wsX200 : List Cond := u_ws RX20 TX20 7
theorem nmX20 : ∀ a, a < 7 → ∀ b, b < 7 → a ≠ b → (TX20 a).2.1 ≠ (TX20 b).2.1 := by decide +kernel
theorem tyX20_ok : ∀ k, k < 7 → parseFieldDescriptor (TX20 k).2.2.1 = some (tyX20 k) := by decide +kernel
abbrev cX20_init : ByteArray := prog_6_method_1_code
def yX20_init : MethodName := ⟨RX20, "<init>", "(I)V"⟩
def dkwX20_init_0 : List UInt8 := [42, 183, 0, 1, 42, 27, 181, 0, 7, 177]
abbrev dktX20_init_0 : List UInt8 := dkwX20_init_0 ++ []
theorem dksX20_init_0 : cX20_init.data.toList.drop 0 = dktX20_init_0 := by decide +kernel
theorem dX20_init_0 : decode cX20_init 0 = .ok (.aload_n 0, 1) := dk_42 (dk_at dksX20_init_0 0 rfl rfl)
theorem dX20_init_1 : decode cX20_init 1 = .ok (.invokespecial 1, 3) := dk_183 0 1 (dk_at dksX20_init_0 1 rfl rfl)
theorem dX20_init_4 : decode cX20_init 4 = .ok (.aload_n 0, 1) := dk_42 (dk_at dksX20_init_0 4 rfl rfl)
theorem dX20_init_5 : decode cX20_init 5 = .ok (.iload_n 1, 1) := dk_27 (dk_at dksX20_init_0 5 rfl rfl)
theorem dX20_init_6 : decode cX20_init 6 = .ok (.putfield 7, 3) := dk_181 0 7 (dk_at dksX20_init_0 6 rfl rfl)
theorem dX20_init_9 : decode cX20_init 9 = .ok (.return_, 1) := dk_177 (dk_at dksX20_init_0 9 rfl rfl)
abbrev cX20_number : ByteArray := prog_6_method_2_code
def yX20_number : MethodName := ⟨RX20, "number", "()I"⟩
theorem dX20_number_0 : decode cX20_number 0 = .ok (.aload_n 0, 1) := by decide +kernel
theorem dX20_number_1 : decode cX20_number 1 = .ok (.getfield 7, 3) := by decide +kernel
theorem dX20_number_4 : decode cX20_number 4 = .ok (.ireturn, 1) := by decide +kernel
theorem q104 : (Jvm.Cond.initialized "WithoutThem$Fault") ∈ lw_all := lw_g (lw_at lw_m1 24 rfl) rfl
theorem q395 : (Jvm.Cond.selects "WithoutThem$Fault" ({ cls := "java/lang/Throwable", name := "fillInStackTrace", desc := "()Ljava/lang/Throwable;" } : Jvm.MethodName) ({ cls := "java/lang/Throwable", name := "fillInStackTrace", desc := "()Ljava/lang/Throwable;" } : Jvm.MethodName)) ∈ lw_all := lw_g (lw_at lw_m2 75 rfl) rfl
theorem q467 : (Jvm.Cond.instantiable "WithoutThem$Fault" (7 : Nat)) ∈ lw_all := lw_g (lw_at lw_m2 147 rfl) rfl
theorem q468 : (Jvm.Cond.castable "WithoutThem$Fault" "WithoutThem$Fault") ∈ lw_tbl := lw_at lw_m2 148 rfl
theorem q469 : (Jvm.Cond.selects "WithoutThem$Fault" ({ cls := "java/lang/Throwable", name := "fillInStackTrace", desc := "(I)Ljava/lang/Throwable;" } : Jvm.MethodName) ({ cls := "java/lang/Throwable", name := "fillInStackTrace", desc := "(I)Ljava/lang/Throwable;" } : Jvm.MethodName)) ∈ lw_all := lw_g (lw_at lw_m2 149 rfl) rfl
theorem q470 : (Jvm.Cond.lays "WithoutThem$Fault" "java/lang/Throwable" "cause" "Ljava/lang/Throwable;") ∈ lw_all := lw_g (lw_at lw_m2 150 rfl) rfl
theorem q471 : (Jvm.Cond.lays "WithoutThem$Fault" "java/lang/Throwable" "stackTrace" "[Ljava/lang/StackTraceElement;") ∈ lw_all := lw_g (lw_at lw_m2 151 rfl) rfl
theorem q472 : (Jvm.Cond.lays "WithoutThem$Fault" "java/lang/Throwable" "suppressedExceptions" "Ljava/util/List;") ∈ lw_all := lw_g (lw_at lw_m2 152 rfl) rfl
theorem q473 : (Jvm.Cond.lays "WithoutThem$Fault" "java/lang/Throwable" "detailMessage" "Ljava/lang/String;") ∈ lw_all := lw_g (lw_at lw_m2 153 rfl) rfl
theorem q474 : (Jvm.Cond.lays "WithoutThem$Fault" "java/lang/Throwable" "backtrace" "Ljava/lang/Object;") ∈ lw_all := lw_g (lw_at lw_m2 154 rfl) rfl
theorem q476 : (Jvm.Cond.instanceMethod ({ cls := "WithoutThem$Fault", name := "<init>", desc := "(I)V" } : Jvm.MethodName)) ∈ lw_all := lw_g (lw_at lw_m2 156 rfl) rfl
theorem q477 : (Jvm.Cond.code ({ cls := "WithoutThem$Fault", name := "<init>", desc := "(I)V" } : Jvm.MethodName) prog_6_method_1_code (2 : Nat) (Option.none : Option Jvm.ClassFile.FieldType)) ∈ lw_all := lw_g (lw_at lw_m2 157 rfl) rfl
theorem q478 : (Jvm.Cond.methodLinkNest "WithoutThem$Fault" (1 : Nat) ({ cls := "WithoutThem$Refusal", name := "<init>", desc := "()V" } : Jvm.MethodName) "WithoutThem") ∈ lw_tbl := lw_at lw_m2 158 rfl
theorem q479 : (Jvm.Cond.fieldLink "WithoutThem$Fault" (7 : Nat) "WithoutThem$Fault" "told" "I") ∈ lw_all := lw_g (lw_at lw_m2 159 rfl) rfl
theorem q480 : (Jvm.Cond.laysFinal "WithoutThem$Fault" "WithoutThem$Fault" "told" "I") ∈ lw_all := lw_g (lw_at lw_m2 160 rfl) rfl
theorem q481 : (Jvm.Cond.soleField "WithoutThem$Fault" "told") ∈ lw_all := lw_g (lw_at lw_m2 161 rfl) rfl
theorem q482 : (Jvm.Cond.lays "WithoutThem$Fault" "java/lang/Throwable" "depth" "I") ∈ lw_all := lw_g (lw_at lw_m2 162 rfl) rfl
theorem q483 : (Jvm.Cond.superclass "WithoutThem$Fault" "WithoutThem$Refusal") ∈ lw_all := lw_g (lw_at lw_m2 163 rfl) rfl
theorem q935 : (Jvm.Cond.selects "WithoutThem$Fault" ({ cls := "WithoutThem$Refusal", name := "number", desc := "()I" } : Jvm.MethodName) ({ cls := "WithoutThem$Fault", name := "number", desc := "()I" } : Jvm.MethodName)) ∈ lw_all := lw_g (lw_at lw_m4 135 rfl) rfl
theorem q936 : (Jvm.Cond.instanceMethod ({ cls := "WithoutThem$Fault", name := "number", desc := "()I" } : Jvm.MethodName)) ∈ lw_all := lw_g (lw_at lw_m4 136 rfl) rfl
theorem q937 : (Jvm.Cond.code ({ cls := "WithoutThem$Fault", name := "number", desc := "()I" } : Jvm.MethodName) prog_6_method_2_code (1 : Nat) (Option.some Jvm.ClassFile.FieldType.int)) ∈ lw_all := lw_g (lw_at lw_m4 137 rfl) rfl
theorem q1439 : (Jvm.Cond.castable "WithoutThem$Fault" "WithoutThem$Refusal") ∈ lw_tbl := lw_at lw_m6 159 rfl
theorem in_X20 : ∀ w ∈ wsX200, w ∈ lw_all := lw_in wsX200 [470, 471, 472, 473, 474, 482, 480] (by decide +kernel) (by decide +kernel)

/-! WithoutThem$Told -/
set_option maxRecDepth 100000
def RX21 : String := "WithoutThem$Told"
abbrev cX21_init : ByteArray := prog_24_method_1_code
def yX21_init : MethodName := ⟨RX21, "<init>", "(III)V"⟩
def dkwX21_init_0 : List UInt8 := [42, 183, 0, 1, 42, 27, 181, 0, 7, 42, 28, 181, 0, 13, 42, 29, 181, 0, 16, 177]
abbrev dktX21_init_0 : List UInt8 := dkwX21_init_0 ++ []
theorem dksX21_init_0 : cX21_init.data.toList.drop 0 = dktX21_init_0 := by decide +kernel
theorem dX21_init_0 : decode cX21_init 0 = .ok (.aload_n 0, 1) := dk_42 (dk_at dksX21_init_0 0 rfl rfl)
theorem dX21_init_1 : decode cX21_init 1 = .ok (.invokespecial 1, 3) := dk_183 0 1 (dk_at dksX21_init_0 1 rfl rfl)
theorem dX21_init_4 : decode cX21_init 4 = .ok (.aload_n 0, 1) := dk_42 (dk_at dksX21_init_0 4 rfl rfl)
theorem dX21_init_5 : decode cX21_init 5 = .ok (.iload_n 1, 1) := dk_27 (dk_at dksX21_init_0 5 rfl rfl)
theorem dX21_init_6 : decode cX21_init 6 = .ok (.putfield 7, 3) := dk_181 0 7 (dk_at dksX21_init_0 6 rfl rfl)
theorem dX21_init_9 : decode cX21_init 9 = .ok (.aload_n 0, 1) := dk_42 (dk_at dksX21_init_0 9 rfl rfl)
theorem dX21_init_10 : decode cX21_init 10 = .ok (.iload_n 2, 1) := dk_28 (dk_at dksX21_init_0 10 rfl rfl)
theorem dX21_init_11 : decode cX21_init 11 = .ok (.putfield 13, 3) := dk_181 0 13 (dk_at dksX21_init_0 11 rfl rfl)
theorem dX21_init_14 : decode cX21_init 14 = .ok (.aload_n 0, 1) := dk_42 (dk_at dksX21_init_0 14 rfl rfl)
theorem dX21_init_15 : decode cX21_init 15 = .ok (.iload_n 3, 1) := dk_29 (dk_at dksX21_init_0 15 rfl rfl)
theorem dX21_init_16 : decode cX21_init 16 = .ok (.putfield 16, 3) := dk_181 0 16 (dk_at dksX21_init_0 16 rfl rfl)
theorem dX21_init_19 : decode cX21_init 19 = .ok (.return_, 1) := dk_177 (dk_at dksX21_init_0 19 rfl rfl)
abbrev cX21_comes : ByteArray := prog_24_method_4_code
def yX21_comes : MethodName := ⟨RX21, "comes", "(LWithoutThem$House;)Z"⟩
def dkwX21_comes_0 : List UInt8 := [42, 43, 182, 0, 19, 61, 28, 153, 0, 8, 42, 43, 182, 0, 23, 28, 172]
abbrev dktX21_comes_0 : List UInt8 := dkwX21_comes_0 ++ []
theorem dksX21_comes_0 : cX21_comes.data.toList.drop 0 = dktX21_comes_0 := by decide +kernel
theorem dX21_comes_0 : decode cX21_comes 0 = .ok (.aload_n 0, 1) := dk_42 (dk_at dksX21_comes_0 0 rfl rfl)
theorem dX21_comes_1 : decode cX21_comes 1 = .ok (.aload_n 1, 1) := dk_43 (dk_at dksX21_comes_0 1 rfl rfl)
theorem dX21_comes_2 : decode cX21_comes 2 = .ok (.invokevirtual 19, 3) := dk_182 0 19 (dk_at dksX21_comes_0 2 rfl rfl)
theorem dX21_comes_5 : decode cX21_comes 5 = .ok (.istore_n 2, 1) := dk_61 (dk_at dksX21_comes_0 5 rfl rfl)
theorem dX21_comes_6 : decode cX21_comes 6 = .ok (.iload_n 2, 1) := dk_28 (dk_at dksX21_comes_0 6 rfl rfl)
theorem dX21_comes_7 : decode cX21_comes 7 = .ok (.ifCond .eq 8, 3) := dk_153 0 8 (dk_at dksX21_comes_0 7 rfl rfl)
theorem dX21_comes_10 : decode cX21_comes 10 = .ok (.aload_n 0, 1) := dk_42 (dk_at dksX21_comes_0 10 rfl rfl)
theorem dX21_comes_11 : decode cX21_comes 11 = .ok (.aload_n 1, 1) := dk_43 (dk_at dksX21_comes_0 11 rfl rfl)
theorem dX21_comes_12 : decode cX21_comes 12 = .ok (.invokevirtual 23, 3) := dk_182 0 23 (dk_at dksX21_comes_0 12 rfl rfl)
theorem dX21_comes_15 : decode cX21_comes 15 = .ok (.iload_n 2, 1) := dk_28 (dk_at dksX21_comes_0 15 rfl rfl)
theorem dX21_comes_16 : decode cX21_comes 16 = .ok (.ireturn, 1) := dk_172 (dk_at dksX21_comes_0 16 rfl rfl)
theorem q105 : (Jvm.Cond.initialized "WithoutThem$Told") ∈ lw_all := lw_g (lw_at lw_m1 25 rfl) rfl
theorem q515 : (Jvm.Cond.instanceMethod ({ cls := "WithoutThem$Told", name := "<init>", desc := "(III)V" } : Jvm.MethodName)) ∈ lw_all := lw_g (lw_at lw_m2 195 rfl) rfl
theorem q516 : (Jvm.Cond.code ({ cls := "WithoutThem$Told", name := "<init>", desc := "(III)V" } : Jvm.MethodName) prog_24_method_1_code (4 : Nat) (Option.none : Option Jvm.ClassFile.FieldType)) ∈ lw_all := lw_g (lw_at lw_m2 196 rfl) rfl
theorem q517 : (Jvm.Cond.methodLink "WithoutThem$Told" (1 : Nat) ({ cls := "java/lang/Object", name := "<init>", desc := "()V" } : Jvm.MethodName)) ∈ lw_all := lw_g (lw_at lw_m2 197 rfl) rfl
theorem q519 : (Jvm.Cond.fieldLink "WithoutThem$Told" (7 : Nat) "WithoutThem$Told" "start" "I") ∈ lw_all := lw_g (lw_at lw_m2 199 rfl) rfl
theorem q521 : (Jvm.Cond.fieldLink "WithoutThem$Told" (13 : Nat) "WithoutThem$Told" "first" "I") ∈ lw_all := lw_g (lw_at lw_m2 201 rfl) rfl
theorem q532 : (Jvm.Cond.fieldLink "WithoutThem$Told" (16 : Nat) "WithoutThem$Told" "second" "I") ∈ lw_all := lw_g (lw_at lw_m2 212 rfl) rfl
theorem q544 : (Jvm.Cond.soleField "WithoutThem$Told" "start") ∈ lw_all := lw_g (lw_at lw_m2 224 rfl) rfl
theorem q546 : (Jvm.Cond.soleField "WithoutThem$Told" "first") ∈ lw_all := lw_g (lw_at lw_m2 226 rfl) rfl
theorem q548 : (Jvm.Cond.soleField "WithoutThem$Told" "second") ∈ lw_all := lw_g (lw_at lw_m2 228 rfl) rfl
theorem q602 : (Jvm.Cond.instanceMethod ({ cls := "WithoutThem$Told", name := "comes", desc := "(LWithoutThem$House;)Z" } : Jvm.MethodName)) ∈ lw_all := lw_g (lw_at lw_m3 42 rfl) rfl
theorem q603 : (Jvm.Cond.sameMethod "WithoutThem$Told" "WithoutThem$Told" "comes" "(LWithoutThem$House;)Z") ∈ lw_all := lw_g (lw_at lw_m3 43 rfl) rfl
theorem q609 : (Jvm.Cond.code ({ cls := "WithoutThem$Told", name := "comes", desc := "(LWithoutThem$House;)Z" } : Jvm.MethodName) prog_24_method_4_code (3 : Nat) (Option.some Jvm.ClassFile.FieldType.boolean)) ∈ lw_all := lw_g (lw_at lw_m3 49 rfl) rfl
theorem q610 : (Jvm.Cond.methodLink "WithoutThem$Told" (19 : Nat) ({ cls := "WithoutThem$Told", name := "isGood", desc := "(LWithoutThem$House;)Z" } : Jvm.MethodName)) ∈ lw_all := lw_g (lw_at lw_m3 50 rfl) rfl
theorem q611 : (Jvm.Cond.declares ({ cls := "WithoutThem$Told", name := "isGood", desc := "(LWithoutThem$House;)Z" } : Jvm.MethodName)) ∈ lw_tbl := lw_at lw_m3 51 rfl
theorem q612 : (Jvm.Cond.sameMethod "WithoutThem$Told" "WithoutThem$Told" "isGood" "(LWithoutThem$House;)Z") ∈ lw_all := lw_g (lw_at lw_m3 52 rfl) rfl
theorem q627 : (Jvm.Cond.methodLink "WithoutThem$Told" (23 : Nat) ({ cls := "WithoutThem$Told", name := "become", desc := "(LWithoutThem$House;)V" } : Jvm.MethodName)) ∈ lw_all := lw_g (lw_at lw_m3 67 rfl) rfl
theorem q628 : (Jvm.Cond.declares ({ cls := "WithoutThem$Told", name := "become", desc := "(LWithoutThem$House;)V" } : Jvm.MethodName)) ∈ lw_tbl := lw_at lw_m3 68 rfl
theorem q629 : (Jvm.Cond.sameMethod "WithoutThem$Told" "WithoutThem$Told" "become" "(LWithoutThem$House;)V") ∈ lw_all := lw_g (lw_at lw_m3 69 rfl) rfl

/-! WithoutThem$ThingTold -/
set_option maxRecDepth 100000
def RX22 : String := "WithoutThem$ThingTold"
def TX22 : u_T := fun k => match k with
  | 0 => ("WithoutThem$Told", "start", "I", true)
  | 1 => ("WithoutThem$Told", "first", "I", true)
  | 2 => ("WithoutThem$Told", "second", "I", true)
  | _ => ("WithoutThem$ThingTold", "kind", "LWithoutThem$Kind;", true)
def tyX22 : Nat → FieldType := fun k => match k with
  | 0 => .int
  | 1 => .int
  | 2 => .int
  | _ => .object "WithoutThem$Kind"
abbrev wsX220 : List Cond := u_ws RX22 TX22 4
theorem nmX22 : ∀ a, a < 4 → ∀ b, b < 4 → a ≠ b → (TX22 a).2.1 ≠ (TX22 b).2.1 := by decide +kernel
theorem tyX22_ok : ∀ k, k < 4 → parseFieldDescriptor (TX22 k).2.2.1 = some (tyX22 k) := by decide +kernel
abbrev cX22_init : ByteArray := prog_23_method_1_code
def yX22_init : MethodName := ⟨RX22, "<init>", "(ILWithoutThem$Kind;II)V"⟩
def dkwX22_init_0 : List UInt8 := [42, 27, 29, 21, 4, 183, 0, 3, 42, 44, 181, 0, 9, 177]
abbrev dktX22_init_0 : List UInt8 := dkwX22_init_0 ++ []
theorem dksX22_init_0 : cX22_init.data.toList.drop 0 = dktX22_init_0 := by decide +kernel
theorem dX22_init_0 : decode cX22_init 0 = .ok (.aload_n 0, 1) := dk_42 (dk_at dksX22_init_0 0 rfl rfl)
theorem dX22_init_1 : decode cX22_init 1 = .ok (.iload_n 1, 1) := dk_27 (dk_at dksX22_init_0 1 rfl rfl)
theorem dX22_init_2 : decode cX22_init 2 = .ok (.iload_n 3, 1) := dk_29 (dk_at dksX22_init_0 2 rfl rfl)
theorem dX22_init_3 : decode cX22_init 3 = .ok (.iload 4, 2) := dk_21 4 (dk_at dksX22_init_0 3 rfl rfl)
theorem dX22_init_5 : decode cX22_init 5 = .ok (.invokespecial 3, 3) := dk_183 0 3 (dk_at dksX22_init_0 5 rfl rfl)
theorem dX22_init_8 : decode cX22_init 8 = .ok (.aload_n 0, 1) := dk_42 (dk_at dksX22_init_0 8 rfl rfl)
theorem dX22_init_9 : decode cX22_init 9 = .ok (.aload_n 2, 1) := dk_44 (dk_at dksX22_init_0 9 rfl rfl)
theorem dX22_init_10 : decode cX22_init 10 = .ok (.putfield 9, 3) := dk_181 0 9 (dk_at dksX22_init_0 10 rfl rfl)
theorem dX22_init_13 : decode cX22_init 13 = .ok (.return_, 1) := dk_177 (dk_at dksX22_init_0 13 rfl rfl)
abbrev cX22_isGood : ByteArray := prog_23_method_2_code
def yX22_isGood : MethodName := ⟨RX22, "isGood", "(LWithoutThem$House;)Z"⟩
def dkwX22_isGood_1 : List UInt8 := [184, 0, 21, 153, 0, 16, 43, 180, 0, 30, 16, 10, 162, 0, 7, 4, 167, 0, 4, 3, 172]
abbrev dktX22_isGood_1 : List UInt8 := dkwX22_isGood_1 ++ []
def dkwX22_isGood_0 : List UInt8 := [42, 180, 0, 15, 133, 10, 20, 0, 19, 184, 0, 21, 153, 0, 31, 42, 180, 0, 25, 133, 10, 20, 0, 28]
abbrev dktX22_isGood_0 : List UInt8 := dkwX22_isGood_0 ++ dktX22_isGood_1
theorem dksX22_isGood_0 : cX22_isGood.data.toList.drop 0 = dktX22_isGood_0 := by decide +kernel
theorem dksX22_isGood_1 : cX22_isGood.data.toList.drop 24 = dktX22_isGood_1 := dk_seg dksX22_isGood_0 24 rfl rfl
theorem dX22_isGood_0 : decode cX22_isGood 0 = .ok (.aload_n 0, 1) := dk_42 (dk_at dksX22_isGood_0 0 rfl rfl)
theorem dX22_isGood_1 : decode cX22_isGood 1 = .ok (.getfield 15, 3) := dk_180 0 15 (dk_at dksX22_isGood_0 1 rfl rfl)
theorem dX22_isGood_4 : decode cX22_isGood 4 = .ok (.i2l, 1) := dk_133 (dk_at dksX22_isGood_0 4 rfl rfl)
theorem dX22_isGood_5 : decode cX22_isGood 5 = .ok (.lconst 1, 1) := dk_10 (dk_at dksX22_isGood_0 5 rfl rfl)
theorem dX22_isGood_6 : decode cX22_isGood 6 = .ok (.ldc2_w 19, 3) := dk_20 0 19 (dk_at dksX22_isGood_0 6 rfl rfl)
theorem dX22_isGood_9 : decode cX22_isGood 9 = .ok (.invokestatic 21, 3) := dk_184 0 21 (dk_at dksX22_isGood_0 9 rfl rfl)
theorem dX22_isGood_12 : decode cX22_isGood 12 = .ok (.ifCond .eq 31, 3) := dk_153 0 31 (dk_at dksX22_isGood_0 12 rfl rfl)
theorem dX22_isGood_15 : decode cX22_isGood 15 = .ok (.aload_n 0, 1) := dk_42 (dk_at dksX22_isGood_0 15 rfl rfl)
theorem dX22_isGood_16 : decode cX22_isGood 16 = .ok (.getfield 25, 3) := dk_180 0 25 (dk_at dksX22_isGood_0 16 rfl rfl)
theorem dX22_isGood_19 : decode cX22_isGood 19 = .ok (.i2l, 1) := dk_133 (dk_at dksX22_isGood_0 19 rfl rfl)
theorem dX22_isGood_20 : decode cX22_isGood 20 = .ok (.lconst 1, 1) := dk_10 (dk_at dksX22_isGood_0 20 rfl rfl)
theorem dX22_isGood_21 : decode cX22_isGood 21 = .ok (.ldc2_w 28, 3) := dk_20 0 28 (dk_at dksX22_isGood_0 21 rfl rfl)
theorem dX22_isGood_24 : decode cX22_isGood 24 = .ok (.invokestatic 21, 3) := dk_184 0 21 (dk_at dksX22_isGood_1 0 rfl rfl)
theorem dX22_isGood_27 : decode cX22_isGood 27 = .ok (.ifCond .eq 16, 3) := dk_153 0 16 (dk_at dksX22_isGood_1 3 rfl rfl)
theorem dX22_isGood_30 : decode cX22_isGood 30 = .ok (.aload_n 1, 1) := dk_43 (dk_at dksX22_isGood_1 6 rfl rfl)
theorem dX22_isGood_31 : decode cX22_isGood 31 = .ok (.getfield 30, 3) := dk_180 0 30 (dk_at dksX22_isGood_1 7 rfl rfl)
theorem dX22_isGood_34 : decode cX22_isGood 34 = .ok (.bipush 10, 2) := dk_16 10 (dk_at dksX22_isGood_1 10 rfl rfl)
theorem dX22_isGood_36 : decode cX22_isGood 36 = .ok (.if_icmp .ge 7, 3) := dk_162 0 7 (dk_at dksX22_isGood_1 12 rfl rfl)
theorem dX22_isGood_39 : decode cX22_isGood 39 = .ok (.iconst 1, 1) := dk_4 (dk_at dksX22_isGood_1 15 rfl rfl)
theorem dX22_isGood_40 : decode cX22_isGood 40 = .ok (.goto 4, 3) := dk_167 0 4 (dk_at dksX22_isGood_1 16 rfl rfl)
theorem dX22_isGood_43 : decode cX22_isGood 43 = .ok (.iconst 0, 1) := dk_3 (dk_at dksX22_isGood_1 19 rfl rfl)
theorem dX22_isGood_44 : decode cX22_isGood 44 = .ok (.ireturn, 1) := dk_172 (dk_at dksX22_isGood_1 20 rfl rfl)
abbrev cX22_become : ByteArray := prog_23_method_3_code
def yX22_become : MethodName := ⟨RX22, "become", "(LWithoutThem$House;)V"⟩
def dkwX22_become_3 : List UInt8 := [180, 0, 30, 4, 96, 181, 0, 30, 177]
abbrev dktX22_become_3 : List UInt8 := dkwX22_become_3 ++ []
def dkwX22_become_2 : List UInt8 := [79, 43, 180, 0, 51, 28, 3, 79, 43, 89, 180, 0, 54, 4, 28, 120, 2, 130, 126, 181, 0, 54, 43, 89]
abbrev dktX22_become_2 : List UInt8 := dkwX22_become_2 ++ dktX22_become_3
def dkwX22_become_1 : List UInt8 := [79, 43, 180, 0, 42, 28, 42, 180, 0, 25, 79, 43, 180, 0, 45, 28, 4, 79, 43, 180, 0, 48, 28, 3]
abbrev dktX22_become_1 : List UInt8 := dkwX22_become_1 ++ dktX22_become_2
def dkwX22_become_0 : List UInt8 := [43, 180, 0, 30, 61, 43, 180, 0, 35, 28, 42, 180, 0, 9, 83, 43, 180, 0, 38, 28, 42, 180, 0, 15]
abbrev dktX22_become_0 : List UInt8 := dkwX22_become_0 ++ dktX22_become_1
theorem dksX22_become_0 : cX22_become.data.toList.drop 0 = dktX22_become_0 := by decide +kernel
theorem dksX22_become_1 : cX22_become.data.toList.drop 24 = dktX22_become_1 := dk_seg dksX22_become_0 24 rfl rfl
theorem dksX22_become_2 : cX22_become.data.toList.drop 48 = dktX22_become_2 := dk_seg dksX22_become_1 24 rfl rfl
theorem dksX22_become_3 : cX22_become.data.toList.drop 72 = dktX22_become_3 := dk_seg dksX22_become_2 24 rfl rfl
theorem dX22_become_0 : decode cX22_become 0 = .ok (.aload_n 1, 1) := dk_43 (dk_at dksX22_become_0 0 rfl rfl)
theorem dX22_become_1 : decode cX22_become 1 = .ok (.getfield 30, 3) := dk_180 0 30 (dk_at dksX22_become_0 1 rfl rfl)
theorem dX22_become_4 : decode cX22_become 4 = .ok (.istore_n 2, 1) := dk_61 (dk_at dksX22_become_0 4 rfl rfl)
theorem dX22_become_5 : decode cX22_become 5 = .ok (.aload_n 1, 1) := dk_43 (dk_at dksX22_become_0 5 rfl rfl)
theorem dX22_become_6 : decode cX22_become 6 = .ok (.getfield 35, 3) := dk_180 0 35 (dk_at dksX22_become_0 6 rfl rfl)
theorem dX22_become_9 : decode cX22_become 9 = .ok (.iload_n 2, 1) := dk_28 (dk_at dksX22_become_0 9 rfl rfl)
theorem dX22_become_10 : decode cX22_become 10 = .ok (.aload_n 0, 1) := dk_42 (dk_at dksX22_become_0 10 rfl rfl)
theorem dX22_become_11 : decode cX22_become 11 = .ok (.getfield 9, 3) := dk_180 0 9 (dk_at dksX22_become_0 11 rfl rfl)
theorem dX22_become_14 : decode cX22_become 14 = .ok (.aastore, 1) := dk_83 (dk_at dksX22_become_0 14 rfl rfl)
theorem dX22_become_15 : decode cX22_become 15 = .ok (.aload_n 1, 1) := dk_43 (dk_at dksX22_become_0 15 rfl rfl)
theorem dX22_become_16 : decode cX22_become 16 = .ok (.getfield 38, 3) := dk_180 0 38 (dk_at dksX22_become_0 16 rfl rfl)
theorem dX22_become_19 : decode cX22_become 19 = .ok (.iload_n 2, 1) := dk_28 (dk_at dksX22_become_0 19 rfl rfl)
theorem dX22_become_20 : decode cX22_become 20 = .ok (.aload_n 0, 1) := dk_42 (dk_at dksX22_become_0 20 rfl rfl)
theorem dX22_become_21 : decode cX22_become 21 = .ok (.getfield 15, 3) := dk_180 0 15 (dk_at dksX22_become_0 21 rfl rfl)
theorem dX22_become_24 : decode cX22_become 24 = .ok (.iastore, 1) := dk_79 (dk_at dksX22_become_1 0 rfl rfl)
theorem dX22_become_25 : decode cX22_become 25 = .ok (.aload_n 1, 1) := dk_43 (dk_at dksX22_become_1 1 rfl rfl)
theorem dX22_become_26 : decode cX22_become 26 = .ok (.getfield 42, 3) := dk_180 0 42 (dk_at dksX22_become_1 2 rfl rfl)
theorem dX22_become_29 : decode cX22_become 29 = .ok (.iload_n 2, 1) := dk_28 (dk_at dksX22_become_1 5 rfl rfl)
theorem dX22_become_30 : decode cX22_become 30 = .ok (.aload_n 0, 1) := dk_42 (dk_at dksX22_become_1 6 rfl rfl)
theorem dX22_become_31 : decode cX22_become 31 = .ok (.getfield 25, 3) := dk_180 0 25 (dk_at dksX22_become_1 7 rfl rfl)
theorem dX22_become_34 : decode cX22_become 34 = .ok (.iastore, 1) := dk_79 (dk_at dksX22_become_1 10 rfl rfl)
theorem dX22_become_35 : decode cX22_become 35 = .ok (.aload_n 1, 1) := dk_43 (dk_at dksX22_become_1 11 rfl rfl)
theorem dX22_become_36 : decode cX22_become 36 = .ok (.getfield 45, 3) := dk_180 0 45 (dk_at dksX22_become_1 12 rfl rfl)
theorem dX22_become_39 : decode cX22_become 39 = .ok (.iload_n 2, 1) := dk_28 (dk_at dksX22_become_1 15 rfl rfl)
theorem dX22_become_40 : decode cX22_become 40 = .ok (.iconst 1, 1) := dk_4 (dk_at dksX22_become_1 16 rfl rfl)
theorem dX22_become_41 : decode cX22_become 41 = .ok (.iastore, 1) := dk_79 (dk_at dksX22_become_1 17 rfl rfl)
theorem dX22_become_42 : decode cX22_become 42 = .ok (.aload_n 1, 1) := dk_43 (dk_at dksX22_become_1 18 rfl rfl)
theorem dX22_become_43 : decode cX22_become 43 = .ok (.getfield 48, 3) := dk_180 0 48 (dk_at dksX22_become_1 19 rfl rfl)
theorem dX22_become_46 : decode cX22_become 46 = .ok (.iload_n 2, 1) := dk_28 (dk_at dksX22_become_1 22 rfl rfl)
theorem dX22_become_47 : decode cX22_become 47 = .ok (.iconst 0, 1) := dk_3 (dk_at dksX22_become_1 23 rfl rfl)
theorem dX22_become_48 : decode cX22_become 48 = .ok (.iastore, 1) := dk_79 (dk_at dksX22_become_2 0 rfl rfl)
theorem dX22_become_49 : decode cX22_become 49 = .ok (.aload_n 1, 1) := dk_43 (dk_at dksX22_become_2 1 rfl rfl)
theorem dX22_become_50 : decode cX22_become 50 = .ok (.getfield 51, 3) := dk_180 0 51 (dk_at dksX22_become_2 2 rfl rfl)
theorem dX22_become_53 : decode cX22_become 53 = .ok (.iload_n 2, 1) := dk_28 (dk_at dksX22_become_2 5 rfl rfl)
theorem dX22_become_54 : decode cX22_become 54 = .ok (.iconst 0, 1) := dk_3 (dk_at dksX22_become_2 6 rfl rfl)
theorem dX22_become_55 : decode cX22_become 55 = .ok (.iastore, 1) := dk_79 (dk_at dksX22_become_2 7 rfl rfl)
theorem dX22_become_56 : decode cX22_become 56 = .ok (.aload_n 1, 1) := dk_43 (dk_at dksX22_become_2 8 rfl rfl)
theorem dX22_become_57 : decode cX22_become 57 = .ok (.dup, 1) := dk_89 (dk_at dksX22_become_2 9 rfl rfl)
theorem dX22_become_58 : decode cX22_become 58 = .ok (.getfield 54, 3) := dk_180 0 54 (dk_at dksX22_become_2 10 rfl rfl)
theorem dX22_become_61 : decode cX22_become 61 = .ok (.iconst 1, 1) := dk_4 (dk_at dksX22_become_2 13 rfl rfl)
theorem dX22_become_62 : decode cX22_become 62 = .ok (.iload_n 2, 1) := dk_28 (dk_at dksX22_become_2 14 rfl rfl)
theorem dX22_become_63 : decode cX22_become 63 = .ok (.ishl, 1) := dk_120 (dk_at dksX22_become_2 15 rfl rfl)
theorem dX22_become_64 : decode cX22_become 64 = .ok (.iconst (-1), 1) := dk_2 (dk_at dksX22_become_2 16 rfl rfl)
theorem dX22_become_65 : decode cX22_become 65 = .ok (.ixor, 1) := dk_130 (dk_at dksX22_become_2 17 rfl rfl)
theorem dX22_become_66 : decode cX22_become 66 = .ok (.iand, 1) := dk_126 (dk_at dksX22_become_2 18 rfl rfl)
theorem dX22_become_67 : decode cX22_become 67 = .ok (.putfield 54, 3) := dk_181 0 54 (dk_at dksX22_become_2 19 rfl rfl)
theorem dX22_become_70 : decode cX22_become 70 = .ok (.aload_n 1, 1) := dk_43 (dk_at dksX22_become_2 22 rfl rfl)
theorem dX22_become_71 : decode cX22_become 71 = .ok (.dup, 1) := dk_89 (dk_at dksX22_become_2 23 rfl rfl)
theorem dX22_become_72 : decode cX22_become 72 = .ok (.getfield 30, 3) := dk_180 0 30 (dk_at dksX22_become_3 0 rfl rfl)
theorem dX22_become_75 : decode cX22_become 75 = .ok (.iconst 1, 1) := dk_4 (dk_at dksX22_become_3 3 rfl rfl)
theorem dX22_become_76 : decode cX22_become 76 = .ok (.iadd, 1) := dk_96 (dk_at dksX22_become_3 4 rfl rfl)
theorem dX22_become_77 : decode cX22_become 77 = .ok (.putfield 30, 3) := dk_181 0 30 (dk_at dksX22_become_3 5 rfl rfl)
theorem dX22_become_80 : decode cX22_become 80 = .ok (.return_, 1) := dk_177 (dk_at dksX22_become_3 8 rfl rfl)
theorem q106 : (Jvm.Cond.initialized "WithoutThem$ThingTold") ∈ lw_all := lw_g (lw_at lw_m1 26 rfl) rfl
theorem q225 : (Jvm.Cond.fieldLinkNest "WithoutThem$ThingTold" (30 : Nat) "WithoutThem$House" "things" "I" "WithoutThem") ∈ lw_tbl := lw_at lw_m1 145 rfl
theorem q228 : (Jvm.Cond.fieldLinkNest "WithoutThem$ThingTold" (35 : Nat) "WithoutThem$House" "kind" "[LWithoutThem$Kind;" "WithoutThem") ∈ lw_tbl := lw_at lw_m1 148 rfl
theorem q231 : (Jvm.Cond.fieldLinkNest "WithoutThem$ThingTold" (38 : Nat) "WithoutThem$House" "minutes" "[I" "WithoutThem") ∈ lw_tbl := lw_at lw_m1 151 rfl
theorem q235 : (Jvm.Cond.fieldLinkNest "WithoutThem$ThingTold" (42 : Nat) "WithoutThem$House" "sures" "[I" "WithoutThem") ∈ lw_tbl := lw_at lw_m1 155 rfl
theorem q240 : (Jvm.Cond.fieldLinkNest "WithoutThem$ThingTold" (45 : Nat) "WithoutThem$House" "costs" "[I" "WithoutThem") ∈ lw_tbl := lw_at lw_m1 160 rfl
theorem q244 : (Jvm.Cond.fieldLinkNest "WithoutThem$ThingTold" (48 : Nat) "WithoutThem$House" "anys" "[I" "WithoutThem") ∈ lw_tbl := lw_at lw_m1 164 rfl
theorem q248 : (Jvm.Cond.fieldLinkNest "WithoutThem$ThingTold" (51 : Nat) "WithoutThem$House" "alls" "[I" "WithoutThem") ∈ lw_tbl := lw_at lw_m1 168 rfl
theorem q252 : (Jvm.Cond.fieldLinkNest "WithoutThem$ThingTold" (54 : Nat) "WithoutThem$House" "hand" "I" "WithoutThem") ∈ lw_tbl := lw_at lw_m1 172 rfl
theorem q510 : (Jvm.Cond.instantiable "WithoutThem$ThingTold" (4 : Nat)) ∈ lw_all := lw_g (lw_at lw_m2 190 rfl) rfl
theorem q512 : (Jvm.Cond.instanceMethod ({ cls := "WithoutThem$ThingTold", name := "<init>", desc := "(ILWithoutThem$Kind;II)V" } : Jvm.MethodName)) ∈ lw_all := lw_g (lw_at lw_m2 192 rfl) rfl
theorem q513 : (Jvm.Cond.code ({ cls := "WithoutThem$ThingTold", name := "<init>", desc := "(ILWithoutThem$Kind;II)V" } : Jvm.MethodName) prog_23_method_1_code (5 : Nat) (Option.none : Option Jvm.ClassFile.FieldType)) ∈ lw_all := lw_g (lw_at lw_m2 193 rfl) rfl
theorem q514 : (Jvm.Cond.methodLink "WithoutThem$ThingTold" (3 : Nat) ({ cls := "WithoutThem$Told", name := "<init>", desc := "(III)V" } : Jvm.MethodName)) ∈ lw_all := lw_g (lw_at lw_m2 194 rfl) rfl
theorem q518 : (Jvm.Cond.fieldLink "WithoutThem$ThingTold" (9 : Nat) "WithoutThem$ThingTold" "kind" "LWithoutThem$Kind;") ∈ lw_all := lw_g (lw_at lw_m2 198 rfl) rfl
theorem q526 : (Jvm.Cond.fieldLink "WithoutThem$ThingTold" (15 : Nat) "WithoutThem$ThingTold" "first" "I") ∈ lw_all := lw_g (lw_at lw_m2 206 rfl) rfl
theorem q527 : (Jvm.Cond.sameField "WithoutThem$ThingTold" "WithoutThem$Told" "first" "I") ∈ lw_all := lw_g (lw_at lw_m2 207 rfl) rfl
theorem q539 : (Jvm.Cond.fieldLink "WithoutThem$ThingTold" (25 : Nat) "WithoutThem$ThingTold" "second" "I") ∈ lw_all := lw_g (lw_at lw_m2 219 rfl) rfl
theorem q540 : (Jvm.Cond.sameField "WithoutThem$ThingTold" "WithoutThem$Told" "second" "I") ∈ lw_all := lw_g (lw_at lw_m2 220 rfl) rfl
theorem q541 : (Jvm.Cond.laysFinal "WithoutThem$ThingTold" "WithoutThem$ThingTold" "kind" "LWithoutThem$Kind;") ∈ lw_all := lw_g (lw_at lw_m2 221 rfl) rfl
theorem q542 : (Jvm.Cond.soleField "WithoutThem$ThingTold" "kind") ∈ lw_all := lw_g (lw_at lw_m2 222 rfl) rfl
theorem q543 : (Jvm.Cond.laysFinal "WithoutThem$ThingTold" "WithoutThem$Told" "start" "I") ∈ lw_all := lw_g (lw_at lw_m2 223 rfl) rfl
theorem q545 : (Jvm.Cond.laysFinal "WithoutThem$ThingTold" "WithoutThem$Told" "first" "I") ∈ lw_all := lw_g (lw_at lw_m2 225 rfl) rfl
theorem q547 : (Jvm.Cond.laysFinal "WithoutThem$ThingTold" "WithoutThem$Told" "second" "I") ∈ lw_all := lw_g (lw_at lw_m2 227 rfl) rfl
theorem q549 : (Jvm.Cond.superclass "WithoutThem$ThingTold" "WithoutThem$Told") ∈ lw_all := lw_g (lw_at lw_m2 229 rfl) rfl
theorem q608 : (Jvm.Cond.selects "WithoutThem$ThingTold" ({ cls := "WithoutThem$Told", name := "comes", desc := "(LWithoutThem$House;)Z" } : Jvm.MethodName) ({ cls := "WithoutThem$Told", name := "comes", desc := "(LWithoutThem$House;)Z" } : Jvm.MethodName)) ∈ lw_all := lw_g (lw_at lw_m3 48 rfl) rfl
theorem q621 : (Jvm.Cond.selects "WithoutThem$ThingTold" ({ cls := "WithoutThem$Told", name := "isGood", desc := "(LWithoutThem$House;)Z" } : Jvm.MethodName) ({ cls := "WithoutThem$ThingTold", name := "isGood", desc := "(LWithoutThem$House;)Z" } : Jvm.MethodName)) ∈ lw_all := lw_g (lw_at lw_m3 61 rfl) rfl
theorem q622 : (Jvm.Cond.instanceMethod ({ cls := "WithoutThem$ThingTold", name := "isGood", desc := "(LWithoutThem$House;)Z" } : Jvm.MethodName)) ∈ lw_all := lw_g (lw_at lw_m3 62 rfl) rfl
theorem q623 : (Jvm.Cond.code ({ cls := "WithoutThem$ThingTold", name := "isGood", desc := "(LWithoutThem$House;)Z" } : Jvm.MethodName) prog_23_method_2_code (2 : Nat) (Option.some Jvm.ClassFile.FieldType.boolean)) ∈ lw_all := lw_g (lw_at lw_m3 63 rfl) rfl
theorem q624 : (Jvm.Cond.constantLong "WithoutThem$ThingTold" (19 : Nat) (30 : Int64)) ∈ lw_all := lw_g (lw_at lw_m3 64 rfl) rfl
theorem q625 : (Jvm.Cond.methodLinkNest "WithoutThem$ThingTold" (21 : Nat) ({ cls := "WithoutThem", name := "in", desc := "(JJJ)Z" } : Jvm.MethodName) "WithoutThem") ∈ lw_tbl := lw_at lw_m3 65 rfl
theorem q626 : (Jvm.Cond.constantLong "WithoutThem$ThingTold" (28 : Nat) (10 : Int64)) ∈ lw_all := lw_g (lw_at lw_m3 66 rfl) rfl
theorem q642 : (Jvm.Cond.selects "WithoutThem$ThingTold" ({ cls := "WithoutThem$Told", name := "become", desc := "(LWithoutThem$House;)V" } : Jvm.MethodName) ({ cls := "WithoutThem$ThingTold", name := "become", desc := "(LWithoutThem$House;)V" } : Jvm.MethodName)) ∈ lw_all := lw_g (lw_at lw_m3 82 rfl) rfl
theorem q643 : (Jvm.Cond.instanceMethod ({ cls := "WithoutThem$ThingTold", name := "become", desc := "(LWithoutThem$House;)V" } : Jvm.MethodName)) ∈ lw_all := lw_g (lw_at lw_m3 83 rfl) rfl
theorem q644 : (Jvm.Cond.code ({ cls := "WithoutThem$ThingTold", name := "become", desc := "(LWithoutThem$House;)V" } : Jvm.MethodName) prog_23_method_3_code (3 : Nat) (Option.none : Option Jvm.ClassFile.FieldType)) ∈ lw_all := lw_g (lw_at lw_m3 84 rfl) rfl
theorem q1453 : (Jvm.Cond.castable "WithoutThem$ThingTold" "WithoutThem$Told") ∈ lw_tbl := lw_at lw_m6 173 rfl
theorem in_X22 : ∀ w ∈ wsX220, w ∈ lw_all := lw_in wsX220 [543, 545, 547, 541] (by decide +kernel) (by decide +kernel)

/-! WithoutThem$HandTold -/
set_option maxRecDepth 100000
def RX23 : String := "WithoutThem$HandTold"
def TX23 : u_T := fun k => match k with
  | 0 => ("WithoutThem$Told", "start", "I", true)
  | 1 => ("WithoutThem$Told", "first", "I", true)
  | _ => ("WithoutThem$Told", "second", "I", true)
def tyX23 : Nat → FieldType := fun k => match k with
  | 0 => .int
  | 1 => .int
  | _ => .int
abbrev wsX230 : List Cond := u_ws RX23 TX23 3
theorem nmX23 : ∀ a, a < 3 → ∀ b, b < 3 → a ≠ b → (TX23 a).2.1 ≠ (TX23 b).2.1 := by decide +kernel
theorem tyX23_ok : ∀ k, k < 3 → parseFieldDescriptor (TX23 k).2.2.1 = some (tyX23 k) := by decide +kernel
abbrev cX23_init : ByteArray := prog_9_method_1_code
def yX23_init : MethodName := ⟨RX23, "<init>", "(III)V"⟩
def dkwX23_init_0 : List UInt8 := [42, 27, 28, 29, 183, 0, 1, 177]
abbrev dktX23_init_0 : List UInt8 := dkwX23_init_0 ++ []
theorem dksX23_init_0 : cX23_init.data.toList.drop 0 = dktX23_init_0 := by decide +kernel
theorem dX23_init_0 : decode cX23_init 0 = .ok (.aload_n 0, 1) := dk_42 (dk_at dksX23_init_0 0 rfl rfl)
theorem dX23_init_1 : decode cX23_init 1 = .ok (.iload_n 1, 1) := dk_27 (dk_at dksX23_init_0 1 rfl rfl)
theorem dX23_init_2 : decode cX23_init 2 = .ok (.iload_n 2, 1) := dk_28 (dk_at dksX23_init_0 2 rfl rfl)
theorem dX23_init_3 : decode cX23_init 3 = .ok (.iload_n 3, 1) := dk_29 (dk_at dksX23_init_0 3 rfl rfl)
theorem dX23_init_4 : decode cX23_init 4 = .ok (.invokespecial 1, 3) := dk_183 0 1 (dk_at dksX23_init_0 4 rfl rfl)
theorem dX23_init_7 : decode cX23_init 7 = .ok (.return_, 1) := dk_177 (dk_at dksX23_init_0 7 rfl rfl)
abbrev cX23_isGood : ByteArray := prog_9_method_2_code
def yX23_isGood : MethodName := ⟨RX23, "isGood", "(LWithoutThem$House;)Z"⟩
def dkwX23_isGood_0 : List UInt8 := [42, 180, 0, 7, 43, 180, 0, 13, 162, 0, 7, 4, 167, 0, 4, 3, 172]
abbrev dktX23_isGood_0 : List UInt8 := dkwX23_isGood_0 ++ []
theorem dksX23_isGood_0 : cX23_isGood.data.toList.drop 0 = dktX23_isGood_0 := by decide +kernel
theorem dX23_isGood_0 : decode cX23_isGood 0 = .ok (.aload_n 0, 1) := dk_42 (dk_at dksX23_isGood_0 0 rfl rfl)
theorem dX23_isGood_1 : decode cX23_isGood 1 = .ok (.getfield 7, 3) := dk_180 0 7 (dk_at dksX23_isGood_0 1 rfl rfl)
theorem dX23_isGood_4 : decode cX23_isGood 4 = .ok (.aload_n 1, 1) := dk_43 (dk_at dksX23_isGood_0 4 rfl rfl)
theorem dX23_isGood_5 : decode cX23_isGood 5 = .ok (.getfield 13, 3) := dk_180 0 13 (dk_at dksX23_isGood_0 5 rfl rfl)
theorem dX23_isGood_8 : decode cX23_isGood 8 = .ok (.if_icmp .ge 7, 3) := dk_162 0 7 (dk_at dksX23_isGood_0 8 rfl rfl)
theorem dX23_isGood_11 : decode cX23_isGood 11 = .ok (.iconst 1, 1) := dk_4 (dk_at dksX23_isGood_0 11 rfl rfl)
theorem dX23_isGood_12 : decode cX23_isGood 12 = .ok (.goto 4, 3) := dk_167 0 4 (dk_at dksX23_isGood_0 12 rfl rfl)
theorem dX23_isGood_15 : decode cX23_isGood 15 = .ok (.iconst 0, 1) := dk_3 (dk_at dksX23_isGood_0 15 rfl rfl)
theorem dX23_isGood_16 : decode cX23_isGood 16 = .ok (.ireturn, 1) := dk_172 (dk_at dksX23_isGood_0 16 rfl rfl)
abbrev cX23_become : ByteArray := prog_9_method_3_code
def yX23_become : MethodName := ⟨RX23, "become", "(LWithoutThem$House;)V"⟩
def dkwX23_become_0 : List UInt8 := [43, 89, 180, 0, 18, 4, 42, 180, 0, 7, 120, 130, 181, 0, 18, 177]
abbrev dktX23_become_0 : List UInt8 := dkwX23_become_0 ++ []
theorem dksX23_become_0 : cX23_become.data.toList.drop 0 = dktX23_become_0 := by decide +kernel
theorem dX23_become_0 : decode cX23_become 0 = .ok (.aload_n 1, 1) := dk_43 (dk_at dksX23_become_0 0 rfl rfl)
theorem dX23_become_1 : decode cX23_become 1 = .ok (.dup, 1) := dk_89 (dk_at dksX23_become_0 1 rfl rfl)
theorem dX23_become_2 : decode cX23_become 2 = .ok (.getfield 18, 3) := dk_180 0 18 (dk_at dksX23_become_0 2 rfl rfl)
theorem dX23_become_5 : decode cX23_become 5 = .ok (.iconst 1, 1) := dk_4 (dk_at dksX23_become_0 5 rfl rfl)
theorem dX23_become_6 : decode cX23_become 6 = .ok (.aload_n 0, 1) := dk_42 (dk_at dksX23_become_0 6 rfl rfl)
theorem dX23_become_7 : decode cX23_become 7 = .ok (.getfield 7, 3) := dk_180 0 7 (dk_at dksX23_become_0 7 rfl rfl)
theorem dX23_become_10 : decode cX23_become 10 = .ok (.ishl, 1) := dk_120 (dk_at dksX23_become_0 10 rfl rfl)
theorem dX23_become_11 : decode cX23_become 11 = .ok (.ixor, 1) := dk_130 (dk_at dksX23_become_0 11 rfl rfl)
theorem dX23_become_12 : decode cX23_become 12 = .ok (.putfield 18, 3) := dk_181 0 18 (dk_at dksX23_become_0 12 rfl rfl)
theorem dX23_become_15 : decode cX23_become 15 = .ok (.return_, 1) := dk_177 (dk_at dksX23_become_0 15 rfl rfl)
theorem q107 : (Jvm.Cond.initialized "WithoutThem$HandTold") ∈ lw_all := lw_g (lw_at lw_m1 27 rfl) rfl
theorem q224 : (Jvm.Cond.fieldLinkNest "WithoutThem$HandTold" (13 : Nat) "WithoutThem$House" "things" "I" "WithoutThem") ∈ lw_tbl := lw_at lw_m1 144 rfl
theorem q251 : (Jvm.Cond.fieldLinkNest "WithoutThem$HandTold" (18 : Nat) "WithoutThem$House" "hand" "I" "WithoutThem") ∈ lw_tbl := lw_at lw_m1 171 rfl
theorem q524 : (Jvm.Cond.fieldLink "WithoutThem$HandTold" (7 : Nat) "WithoutThem$HandTold" "first" "I") ∈ lw_all := lw_g (lw_at lw_m2 204 rfl) rfl
theorem q525 : (Jvm.Cond.sameField "WithoutThem$HandTold" "WithoutThem$Told" "first" "I") ∈ lw_all := lw_g (lw_at lw_m2 205 rfl) rfl
theorem q555 : (Jvm.Cond.instantiable "WithoutThem$HandTold" (3 : Nat)) ∈ lw_all := lw_g (lw_at lw_m2 235 rfl) rfl
theorem q557 : (Jvm.Cond.instanceMethod ({ cls := "WithoutThem$HandTold", name := "<init>", desc := "(III)V" } : Jvm.MethodName)) ∈ lw_all := lw_g (lw_at lw_m2 237 rfl) rfl
theorem q558 : (Jvm.Cond.code ({ cls := "WithoutThem$HandTold", name := "<init>", desc := "(III)V" } : Jvm.MethodName) prog_9_method_1_code (4 : Nat) (Option.none : Option Jvm.ClassFile.FieldType)) ∈ lw_all := lw_g (lw_at lw_m2 238 rfl) rfl
theorem q559 : (Jvm.Cond.methodLink "WithoutThem$HandTold" (1 : Nat) ({ cls := "WithoutThem$Told", name := "<init>", desc := "(III)V" } : Jvm.MethodName)) ∈ lw_all := lw_g (lw_at lw_m2 239 rfl) rfl
theorem q560 : (Jvm.Cond.laysFinal "WithoutThem$HandTold" "WithoutThem$Told" "start" "I") ∈ lw_all := lw_g (lw_at lw_m3 0 rfl) rfl
theorem q561 : (Jvm.Cond.laysFinal "WithoutThem$HandTold" "WithoutThem$Told" "first" "I") ∈ lw_all := lw_g (lw_at lw_m3 1 rfl) rfl
theorem q562 : (Jvm.Cond.laysFinal "WithoutThem$HandTold" "WithoutThem$Told" "second" "I") ∈ lw_all := lw_g (lw_at lw_m3 2 rfl) rfl
theorem q563 : (Jvm.Cond.superclass "WithoutThem$HandTold" "WithoutThem$Told") ∈ lw_all := lw_g (lw_at lw_m3 3 rfl) rfl
theorem q607 : (Jvm.Cond.selects "WithoutThem$HandTold" ({ cls := "WithoutThem$Told", name := "comes", desc := "(LWithoutThem$House;)Z" } : Jvm.MethodName) ({ cls := "WithoutThem$Told", name := "comes", desc := "(LWithoutThem$House;)Z" } : Jvm.MethodName)) ∈ lw_all := lw_g (lw_at lw_m3 47 rfl) rfl
theorem q618 : (Jvm.Cond.instanceMethod ({ cls := "WithoutThem$HandTold", name := "isGood", desc := "(LWithoutThem$House;)Z" } : Jvm.MethodName)) ∈ lw_all := lw_g (lw_at lw_m3 58 rfl) rfl
theorem q619 : (Jvm.Cond.code ({ cls := "WithoutThem$HandTold", name := "isGood", desc := "(LWithoutThem$House;)Z" } : Jvm.MethodName) prog_9_method_2_code (2 : Nat) (Option.some Jvm.ClassFile.FieldType.boolean)) ∈ lw_all := lw_g (lw_at lw_m3 59 rfl) rfl
theorem q620 : (Jvm.Cond.selects "WithoutThem$HandTold" ({ cls := "WithoutThem$Told", name := "isGood", desc := "(LWithoutThem$House;)Z" } : Jvm.MethodName) ({ cls := "WithoutThem$HandTold", name := "isGood", desc := "(LWithoutThem$House;)Z" } : Jvm.MethodName)) ∈ lw_all := lw_g (lw_at lw_m3 60 rfl) rfl
theorem q639 : (Jvm.Cond.selects "WithoutThem$HandTold" ({ cls := "WithoutThem$Told", name := "become", desc := "(LWithoutThem$House;)V" } : Jvm.MethodName) ({ cls := "WithoutThem$HandTold", name := "become", desc := "(LWithoutThem$House;)V" } : Jvm.MethodName)) ∈ lw_all := lw_g (lw_at lw_m3 79 rfl) rfl
theorem q640 : (Jvm.Cond.instanceMethod ({ cls := "WithoutThem$HandTold", name := "become", desc := "(LWithoutThem$House;)V" } : Jvm.MethodName)) ∈ lw_all := lw_g (lw_at lw_m3 80 rfl) rfl
theorem q641 : (Jvm.Cond.code ({ cls := "WithoutThem$HandTold", name := "become", desc := "(LWithoutThem$House;)V" } : Jvm.MethodName) prog_9_method_3_code (2 : Nat) (Option.none : Option Jvm.ClassFile.FieldType)) ∈ lw_all := lw_g (lw_at lw_m3 81 rfl) rfl
theorem q1454 : (Jvm.Cond.castable "WithoutThem$HandTold" "WithoutThem$Told") ∈ lw_tbl := lw_at lw_m6 174 rfl
theorem in_X23 : ∀ w ∈ wsX230, w ∈ lw_all := lw_in wsX230 [560, 561, 562] (by decide +kernel) (by decide +kernel)

/-! WithoutThem$AnyTold -/
set_option maxRecDepth 100000
def RX24 : String := "WithoutThem$AnyTold"
def TX24 : u_T := fun k => match k with
  | 0 => ("WithoutThem$Told", "start", "I", true)
  | 1 => ("WithoutThem$Told", "first", "I", true)
  | _ => ("WithoutThem$Told", "second", "I", true)
def tyX24 : Nat → FieldType := fun k => match k with
  | 0 => .int
  | 1 => .int
  | _ => .int
abbrev wsX240 : List Cond := u_ws RX24 TX24 3
theorem nmX24 : ∀ a, a < 3 → ∀ b, b < 3 → a ≠ b → (TX24 a).2.1 ≠ (TX24 b).2.1 := by decide +kernel
theorem tyX24_ok : ∀ k, k < 3 → parseFieldDescriptor (TX24 k).2.2.1 = some (tyX24 k) := by decide +kernel
abbrev cX24_init : ByteArray := prog_3_method_1_code
def yX24_init : MethodName := ⟨RX24, "<init>", "(III)V"⟩
def dkwX24_init_0 : List UInt8 := [42, 27, 28, 29, 183, 0, 1, 177]
abbrev dktX24_init_0 : List UInt8 := dkwX24_init_0 ++ []
theorem dksX24_init_0 : cX24_init.data.toList.drop 0 = dktX24_init_0 := by decide +kernel
theorem dX24_init_0 : decode cX24_init 0 = .ok (.aload_n 0, 1) := dk_42 (dk_at dksX24_init_0 0 rfl rfl)
theorem dX24_init_1 : decode cX24_init 1 = .ok (.iload_n 1, 1) := dk_27 (dk_at dksX24_init_0 1 rfl rfl)
theorem dX24_init_2 : decode cX24_init 2 = .ok (.iload_n 2, 1) := dk_28 (dk_at dksX24_init_0 2 rfl rfl)
theorem dX24_init_3 : decode cX24_init 3 = .ok (.iload_n 3, 1) := dk_29 (dk_at dksX24_init_0 3 rfl rfl)
theorem dX24_init_4 : decode cX24_init 4 = .ok (.invokespecial 1, 3) := dk_183 0 1 (dk_at dksX24_init_0 4 rfl rfl)
theorem dX24_init_7 : decode cX24_init 7 = .ok (.return_, 1) := dk_177 (dk_at dksX24_init_0 7 rfl rfl)
abbrev cX24_isGood : ByteArray := prog_3_method_2_code
def yX24_isGood : MethodName := ⟨RX24, "isGood", "(LWithoutThem$House;)Z"⟩
def dkwX24_isGood_1 : List UInt8 := [180, 0, 7, 42, 180, 0, 18, 159, 0, 7, 4, 167, 0, 4, 3, 172]
abbrev dktX24_isGood_1 : List UInt8 := dkwX24_isGood_1 ++ []
def dkwX24_isGood_0 : List UInt8 := [42, 180, 0, 7, 43, 180, 0, 13, 162, 0, 29, 42, 180, 0, 18, 43, 180, 0, 13, 162, 0, 18, 42]
abbrev dktX24_isGood_0 : List UInt8 := dkwX24_isGood_0 ++ dktX24_isGood_1
theorem dksX24_isGood_0 : cX24_isGood.data.toList.drop 0 = dktX24_isGood_0 := by decide +kernel
theorem dksX24_isGood_1 : cX24_isGood.data.toList.drop 23 = dktX24_isGood_1 := dk_seg dksX24_isGood_0 23 rfl rfl
theorem dX24_isGood_0 : decode cX24_isGood 0 = .ok (.aload_n 0, 1) := dk_42 (dk_at dksX24_isGood_0 0 rfl rfl)
theorem dX24_isGood_1 : decode cX24_isGood 1 = .ok (.getfield 7, 3) := dk_180 0 7 (dk_at dksX24_isGood_0 1 rfl rfl)
theorem dX24_isGood_4 : decode cX24_isGood 4 = .ok (.aload_n 1, 1) := dk_43 (dk_at dksX24_isGood_0 4 rfl rfl)
theorem dX24_isGood_5 : decode cX24_isGood 5 = .ok (.getfield 13, 3) := dk_180 0 13 (dk_at dksX24_isGood_0 5 rfl rfl)
theorem dX24_isGood_8 : decode cX24_isGood 8 = .ok (.if_icmp .ge 29, 3) := dk_162 0 29 (dk_at dksX24_isGood_0 8 rfl rfl)
theorem dX24_isGood_11 : decode cX24_isGood 11 = .ok (.aload_n 0, 1) := dk_42 (dk_at dksX24_isGood_0 11 rfl rfl)
theorem dX24_isGood_12 : decode cX24_isGood 12 = .ok (.getfield 18, 3) := dk_180 0 18 (dk_at dksX24_isGood_0 12 rfl rfl)
theorem dX24_isGood_15 : decode cX24_isGood 15 = .ok (.aload_n 1, 1) := dk_43 (dk_at dksX24_isGood_0 15 rfl rfl)
theorem dX24_isGood_16 : decode cX24_isGood 16 = .ok (.getfield 13, 3) := dk_180 0 13 (dk_at dksX24_isGood_0 16 rfl rfl)
theorem dX24_isGood_19 : decode cX24_isGood 19 = .ok (.if_icmp .ge 18, 3) := dk_162 0 18 (dk_at dksX24_isGood_0 19 rfl rfl)
theorem dX24_isGood_22 : decode cX24_isGood 22 = .ok (.aload_n 0, 1) := dk_42 (dk_at dksX24_isGood_0 22 rfl rfl)
theorem dX24_isGood_23 : decode cX24_isGood 23 = .ok (.getfield 7, 3) := dk_180 0 7 (dk_at dksX24_isGood_1 0 rfl rfl)
theorem dX24_isGood_26 : decode cX24_isGood 26 = .ok (.aload_n 0, 1) := dk_42 (dk_at dksX24_isGood_1 3 rfl rfl)
theorem dX24_isGood_27 : decode cX24_isGood 27 = .ok (.getfield 18, 3) := dk_180 0 18 (dk_at dksX24_isGood_1 4 rfl rfl)
theorem dX24_isGood_30 : decode cX24_isGood 30 = .ok (.if_icmp .eq 7, 3) := dk_159 0 7 (dk_at dksX24_isGood_1 7 rfl rfl)
theorem dX24_isGood_33 : decode cX24_isGood 33 = .ok (.iconst 1, 1) := dk_4 (dk_at dksX24_isGood_1 10 rfl rfl)
theorem dX24_isGood_34 : decode cX24_isGood 34 = .ok (.goto 4, 3) := dk_167 0 4 (dk_at dksX24_isGood_1 11 rfl rfl)
theorem dX24_isGood_37 : decode cX24_isGood 37 = .ok (.iconst 0, 1) := dk_3 (dk_at dksX24_isGood_1 14 rfl rfl)
theorem dX24_isGood_38 : decode cX24_isGood 38 = .ok (.ireturn, 1) := dk_172 (dk_at dksX24_isGood_1 15 rfl rfl)
abbrev cX24_become : ByteArray := prog_3_method_3_code
def yX24_become : MethodName := ⟨RX24, "become", "(LWithoutThem$House;)V"⟩
def dkwX24_become_0 : List UInt8 := [43, 180, 0, 21, 42, 180, 0, 7, 92, 46, 4, 42, 180, 0, 18, 120, 130, 79, 177]
abbrev dktX24_become_0 : List UInt8 := dkwX24_become_0 ++ []
theorem dksX24_become_0 : cX24_become.data.toList.drop 0 = dktX24_become_0 := by decide +kernel
theorem dX24_become_0 : decode cX24_become 0 = .ok (.aload_n 1, 1) := dk_43 (dk_at dksX24_become_0 0 rfl rfl)
theorem dX24_become_1 : decode cX24_become 1 = .ok (.getfield 21, 3) := dk_180 0 21 (dk_at dksX24_become_0 1 rfl rfl)
theorem dX24_become_4 : decode cX24_become 4 = .ok (.aload_n 0, 1) := dk_42 (dk_at dksX24_become_0 4 rfl rfl)
theorem dX24_become_5 : decode cX24_become 5 = .ok (.getfield 7, 3) := dk_180 0 7 (dk_at dksX24_become_0 5 rfl rfl)
theorem dX24_become_8 : decode cX24_become 8 = .ok (.dup2, 1) := dk_92 (dk_at dksX24_become_0 8 rfl rfl)
theorem dX24_become_9 : decode cX24_become 9 = .ok (.iaload, 1) := dk_46 (dk_at dksX24_become_0 9 rfl rfl)
theorem dX24_become_10 : decode cX24_become 10 = .ok (.iconst 1, 1) := dk_4 (dk_at dksX24_become_0 10 rfl rfl)
theorem dX24_become_11 : decode cX24_become 11 = .ok (.aload_n 0, 1) := dk_42 (dk_at dksX24_become_0 11 rfl rfl)
theorem dX24_become_12 : decode cX24_become 12 = .ok (.getfield 18, 3) := dk_180 0 18 (dk_at dksX24_become_0 12 rfl rfl)
theorem dX24_become_15 : decode cX24_become 15 = .ok (.ishl, 1) := dk_120 (dk_at dksX24_become_0 15 rfl rfl)
theorem dX24_become_16 : decode cX24_become 16 = .ok (.ixor, 1) := dk_130 (dk_at dksX24_become_0 16 rfl rfl)
theorem dX24_become_17 : decode cX24_become 17 = .ok (.iastore, 1) := dk_79 (dk_at dksX24_become_0 17 rfl rfl)
theorem dX24_become_18 : decode cX24_become 18 = .ok (.return_, 1) := dk_177 (dk_at dksX24_become_0 18 rfl rfl)
theorem q108 : (Jvm.Cond.initialized "WithoutThem$AnyTold") ∈ lw_all := lw_g (lw_at lw_m1 28 rfl) rfl
theorem q223 : (Jvm.Cond.fieldLinkNest "WithoutThem$AnyTold" (13 : Nat) "WithoutThem$House" "things" "I" "WithoutThem") ∈ lw_tbl := lw_at lw_m1 143 rfl
theorem q243 : (Jvm.Cond.fieldLinkNest "WithoutThem$AnyTold" (21 : Nat) "WithoutThem$House" "anys" "[I" "WithoutThem") ∈ lw_tbl := lw_at lw_m1 163 rfl
theorem q522 : (Jvm.Cond.fieldLink "WithoutThem$AnyTold" (7 : Nat) "WithoutThem$AnyTold" "first" "I") ∈ lw_all := lw_g (lw_at lw_m2 202 rfl) rfl
theorem q523 : (Jvm.Cond.sameField "WithoutThem$AnyTold" "WithoutThem$Told" "first" "I") ∈ lw_all := lw_g (lw_at lw_m2 203 rfl) rfl
theorem q535 : (Jvm.Cond.fieldLink "WithoutThem$AnyTold" (18 : Nat) "WithoutThem$AnyTold" "second" "I") ∈ lw_all := lw_g (lw_at lw_m2 215 rfl) rfl
theorem q536 : (Jvm.Cond.sameField "WithoutThem$AnyTold" "WithoutThem$Told" "second" "I") ∈ lw_all := lw_g (lw_at lw_m2 216 rfl) rfl
theorem q565 : (Jvm.Cond.instantiable "WithoutThem$AnyTold" (3 : Nat)) ∈ lw_all := lw_g (lw_at lw_m3 5 rfl) rfl
theorem q567 : (Jvm.Cond.instanceMethod ({ cls := "WithoutThem$AnyTold", name := "<init>", desc := "(III)V" } : Jvm.MethodName)) ∈ lw_all := lw_g (lw_at lw_m3 7 rfl) rfl
theorem q568 : (Jvm.Cond.code ({ cls := "WithoutThem$AnyTold", name := "<init>", desc := "(III)V" } : Jvm.MethodName) prog_3_method_1_code (4 : Nat) (Option.none : Option Jvm.ClassFile.FieldType)) ∈ lw_all := lw_g (lw_at lw_m3 8 rfl) rfl
theorem q569 : (Jvm.Cond.methodLink "WithoutThem$AnyTold" (1 : Nat) ({ cls := "WithoutThem$Told", name := "<init>", desc := "(III)V" } : Jvm.MethodName)) ∈ lw_all := lw_g (lw_at lw_m3 9 rfl) rfl
theorem q570 : (Jvm.Cond.laysFinal "WithoutThem$AnyTold" "WithoutThem$Told" "start" "I") ∈ lw_all := lw_g (lw_at lw_m3 10 rfl) rfl
theorem q571 : (Jvm.Cond.laysFinal "WithoutThem$AnyTold" "WithoutThem$Told" "first" "I") ∈ lw_all := lw_g (lw_at lw_m3 11 rfl) rfl
theorem q572 : (Jvm.Cond.laysFinal "WithoutThem$AnyTold" "WithoutThem$Told" "second" "I") ∈ lw_all := lw_g (lw_at lw_m3 12 rfl) rfl
theorem q573 : (Jvm.Cond.superclass "WithoutThem$AnyTold" "WithoutThem$Told") ∈ lw_all := lw_g (lw_at lw_m3 13 rfl) rfl
theorem q605 : (Jvm.Cond.selects "WithoutThem$AnyTold" ({ cls := "WithoutThem$Told", name := "comes", desc := "(LWithoutThem$House;)Z" } : Jvm.MethodName) ({ cls := "WithoutThem$Told", name := "comes", desc := "(LWithoutThem$House;)Z" } : Jvm.MethodName)) ∈ lw_all := lw_g (lw_at lw_m3 45 rfl) rfl
theorem q614 : (Jvm.Cond.instanceMethod ({ cls := "WithoutThem$AnyTold", name := "isGood", desc := "(LWithoutThem$House;)Z" } : Jvm.MethodName)) ∈ lw_all := lw_g (lw_at lw_m3 54 rfl) rfl
theorem q615 : (Jvm.Cond.code ({ cls := "WithoutThem$AnyTold", name := "isGood", desc := "(LWithoutThem$House;)Z" } : Jvm.MethodName) prog_3_method_2_code (2 : Nat) (Option.some Jvm.ClassFile.FieldType.boolean)) ∈ lw_all := lw_g (lw_at lw_m3 55 rfl) rfl
theorem q616 : (Jvm.Cond.selects "WithoutThem$AnyTold" ({ cls := "WithoutThem$Told", name := "isGood", desc := "(LWithoutThem$House;)Z" } : Jvm.MethodName) ({ cls := "WithoutThem$AnyTold", name := "isGood", desc := "(LWithoutThem$House;)Z" } : Jvm.MethodName)) ∈ lw_all := lw_g (lw_at lw_m3 56 rfl) rfl
theorem q633 : (Jvm.Cond.selects "WithoutThem$AnyTold" ({ cls := "WithoutThem$Told", name := "become", desc := "(LWithoutThem$House;)V" } : Jvm.MethodName) ({ cls := "WithoutThem$AnyTold", name := "become", desc := "(LWithoutThem$House;)V" } : Jvm.MethodName)) ∈ lw_all := lw_g (lw_at lw_m3 73 rfl) rfl
theorem q634 : (Jvm.Cond.instanceMethod ({ cls := "WithoutThem$AnyTold", name := "become", desc := "(LWithoutThem$House;)V" } : Jvm.MethodName)) ∈ lw_all := lw_g (lw_at lw_m3 74 rfl) rfl
theorem q635 : (Jvm.Cond.code ({ cls := "WithoutThem$AnyTold", name := "become", desc := "(LWithoutThem$House;)V" } : Jvm.MethodName) prog_3_method_3_code (2 : Nat) (Option.none : Option Jvm.ClassFile.FieldType)) ∈ lw_all := lw_g (lw_at lw_m3 75 rfl) rfl
theorem q1455 : (Jvm.Cond.castable "WithoutThem$AnyTold" "WithoutThem$Told") ∈ lw_tbl := lw_at lw_m6 175 rfl
theorem in_X24 : ∀ w ∈ wsX240, w ∈ lw_all := lw_in wsX240 [570, 571, 572] (by decide +kernel) (by decide +kernel)

/-! WithoutThem$AllTold -/
set_option maxRecDepth 100000
def RX25 : String := "WithoutThem$AllTold"
def TX25 : u_T := fun k => match k with
  | 0 => ("WithoutThem$Told", "start", "I", true)
  | 1 => ("WithoutThem$Told", "first", "I", true)
  | _ => ("WithoutThem$Told", "second", "I", true)
def tyX25 : Nat → FieldType := fun k => match k with
  | 0 => .int
  | 1 => .int
  | _ => .int
abbrev wsX250 : List Cond := u_ws RX25 TX25 3
theorem nmX25 : ∀ a, a < 3 → ∀ b, b < 3 → a ≠ b → (TX25 a).2.1 ≠ (TX25 b).2.1 := by decide +kernel
theorem tyX25_ok : ∀ k, k < 3 → parseFieldDescriptor (TX25 k).2.2.1 = some (tyX25 k) := by decide +kernel
abbrev cX25_init : ByteArray := prog_2_method_1_code
def yX25_init : MethodName := ⟨RX25, "<init>", "(III)V"⟩
def dkwX25_init_0 : List UInt8 := [42, 27, 28, 29, 183, 0, 1, 177]
abbrev dktX25_init_0 : List UInt8 := dkwX25_init_0 ++ []
theorem dksX25_init_0 : cX25_init.data.toList.drop 0 = dktX25_init_0 := by decide +kernel
theorem dX25_init_0 : decode cX25_init 0 = .ok (.aload_n 0, 1) := dk_42 (dk_at dksX25_init_0 0 rfl rfl)
theorem dX25_init_1 : decode cX25_init 1 = .ok (.iload_n 1, 1) := dk_27 (dk_at dksX25_init_0 1 rfl rfl)
theorem dX25_init_2 : decode cX25_init 2 = .ok (.iload_n 2, 1) := dk_28 (dk_at dksX25_init_0 2 rfl rfl)
theorem dX25_init_3 : decode cX25_init 3 = .ok (.iload_n 3, 1) := dk_29 (dk_at dksX25_init_0 3 rfl rfl)
theorem dX25_init_4 : decode cX25_init 4 = .ok (.invokespecial 1, 3) := dk_183 0 1 (dk_at dksX25_init_0 4 rfl rfl)
theorem dX25_init_7 : decode cX25_init 7 = .ok (.return_, 1) := dk_177 (dk_at dksX25_init_0 7 rfl rfl)
abbrev cX25_become : ByteArray := prog_2_method_2_code
def yX25_become : MethodName := ⟨RX25, "become", "(LWithoutThem$House;)V"⟩
def dkwX25_become_0 : List UInt8 := [43, 180, 0, 7, 42, 180, 0, 13, 92, 46, 4, 42, 180, 0, 19, 120, 130, 79, 177]
abbrev dktX25_become_0 : List UInt8 := dkwX25_become_0 ++ []
theorem dksX25_become_0 : cX25_become.data.toList.drop 0 = dktX25_become_0 := by decide +kernel
theorem dX25_become_0 : decode cX25_become 0 = .ok (.aload_n 1, 1) := dk_43 (dk_at dksX25_become_0 0 rfl rfl)
theorem dX25_become_1 : decode cX25_become 1 = .ok (.getfield 7, 3) := dk_180 0 7 (dk_at dksX25_become_0 1 rfl rfl)
theorem dX25_become_4 : decode cX25_become 4 = .ok (.aload_n 0, 1) := dk_42 (dk_at dksX25_become_0 4 rfl rfl)
theorem dX25_become_5 : decode cX25_become 5 = .ok (.getfield 13, 3) := dk_180 0 13 (dk_at dksX25_become_0 5 rfl rfl)
theorem dX25_become_8 : decode cX25_become 8 = .ok (.dup2, 1) := dk_92 (dk_at dksX25_become_0 8 rfl rfl)
theorem dX25_become_9 : decode cX25_become 9 = .ok (.iaload, 1) := dk_46 (dk_at dksX25_become_0 9 rfl rfl)
theorem dX25_become_10 : decode cX25_become 10 = .ok (.iconst 1, 1) := dk_4 (dk_at dksX25_become_0 10 rfl rfl)
theorem dX25_become_11 : decode cX25_become 11 = .ok (.aload_n 0, 1) := dk_42 (dk_at dksX25_become_0 11 rfl rfl)
theorem dX25_become_12 : decode cX25_become 12 = .ok (.getfield 19, 3) := dk_180 0 19 (dk_at dksX25_become_0 12 rfl rfl)
theorem dX25_become_15 : decode cX25_become 15 = .ok (.ishl, 1) := dk_120 (dk_at dksX25_become_0 15 rfl rfl)
theorem dX25_become_16 : decode cX25_become 16 = .ok (.ixor, 1) := dk_130 (dk_at dksX25_become_0 16 rfl rfl)
theorem dX25_become_17 : decode cX25_become 17 = .ok (.iastore, 1) := dk_79 (dk_at dksX25_become_0 17 rfl rfl)
theorem dX25_become_18 : decode cX25_become 18 = .ok (.return_, 1) := dk_177 (dk_at dksX25_become_0 18 rfl rfl)
theorem q109 : (Jvm.Cond.initialized "WithoutThem$AllTold") ∈ lw_all := lw_g (lw_at lw_m1 29 rfl) rfl
theorem q247 : (Jvm.Cond.fieldLinkNest "WithoutThem$AllTold" (7 : Nat) "WithoutThem$House" "alls" "[I" "WithoutThem") ∈ lw_tbl := lw_at lw_m1 167 rfl
theorem q528 : (Jvm.Cond.fieldLink "WithoutThem$AllTold" (13 : Nat) "WithoutThem$AllTold" "first" "I") ∈ lw_all := lw_g (lw_at lw_m2 208 rfl) rfl
theorem q529 : (Jvm.Cond.sameField "WithoutThem$AllTold" "WithoutThem$Told" "first" "I") ∈ lw_all := lw_g (lw_at lw_m2 209 rfl) rfl
theorem q537 : (Jvm.Cond.fieldLink "WithoutThem$AllTold" (19 : Nat) "WithoutThem$AllTold" "second" "I") ∈ lw_all := lw_g (lw_at lw_m2 217 rfl) rfl
theorem q538 : (Jvm.Cond.sameField "WithoutThem$AllTold" "WithoutThem$Told" "second" "I") ∈ lw_all := lw_g (lw_at lw_m2 218 rfl) rfl
theorem q575 : (Jvm.Cond.instantiable "WithoutThem$AllTold" (3 : Nat)) ∈ lw_all := lw_g (lw_at lw_m3 15 rfl) rfl
theorem q577 : (Jvm.Cond.instanceMethod ({ cls := "WithoutThem$AllTold", name := "<init>", desc := "(III)V" } : Jvm.MethodName)) ∈ lw_all := lw_g (lw_at lw_m3 17 rfl) rfl
theorem q578 : (Jvm.Cond.code ({ cls := "WithoutThem$AllTold", name := "<init>", desc := "(III)V" } : Jvm.MethodName) prog_2_method_1_code (4 : Nat) (Option.none : Option Jvm.ClassFile.FieldType)) ∈ lw_all := lw_g (lw_at lw_m3 18 rfl) rfl
theorem q579 : (Jvm.Cond.methodLink "WithoutThem$AllTold" (1 : Nat) ({ cls := "WithoutThem$AnyTold", name := "<init>", desc := "(III)V" } : Jvm.MethodName)) ∈ lw_all := lw_g (lw_at lw_m3 19 rfl) rfl
theorem q580 : (Jvm.Cond.laysFinal "WithoutThem$AllTold" "WithoutThem$Told" "start" "I") ∈ lw_all := lw_g (lw_at lw_m3 20 rfl) rfl
theorem q581 : (Jvm.Cond.laysFinal "WithoutThem$AllTold" "WithoutThem$Told" "first" "I") ∈ lw_all := lw_g (lw_at lw_m3 21 rfl) rfl
theorem q582 : (Jvm.Cond.laysFinal "WithoutThem$AllTold" "WithoutThem$Told" "second" "I") ∈ lw_all := lw_g (lw_at lw_m3 22 rfl) rfl
theorem q583 : (Jvm.Cond.superclass "WithoutThem$AllTold" "WithoutThem$AnyTold") ∈ lw_all := lw_g (lw_at lw_m3 23 rfl) rfl
theorem q604 : (Jvm.Cond.selects "WithoutThem$AllTold" ({ cls := "WithoutThem$Told", name := "comes", desc := "(LWithoutThem$House;)Z" } : Jvm.MethodName) ({ cls := "WithoutThem$Told", name := "comes", desc := "(LWithoutThem$House;)Z" } : Jvm.MethodName)) ∈ lw_all := lw_g (lw_at lw_m3 44 rfl) rfl
theorem q613 : (Jvm.Cond.selects "WithoutThem$AllTold" ({ cls := "WithoutThem$Told", name := "isGood", desc := "(LWithoutThem$House;)Z" } : Jvm.MethodName) ({ cls := "WithoutThem$AnyTold", name := "isGood", desc := "(LWithoutThem$House;)Z" } : Jvm.MethodName)) ∈ lw_all := lw_g (lw_at lw_m3 53 rfl) rfl
theorem q630 : (Jvm.Cond.selects "WithoutThem$AllTold" ({ cls := "WithoutThem$Told", name := "become", desc := "(LWithoutThem$House;)V" } : Jvm.MethodName) ({ cls := "WithoutThem$AllTold", name := "become", desc := "(LWithoutThem$House;)V" } : Jvm.MethodName)) ∈ lw_all := lw_g (lw_at lw_m3 70 rfl) rfl
theorem q631 : (Jvm.Cond.instanceMethod ({ cls := "WithoutThem$AllTold", name := "become", desc := "(LWithoutThem$House;)V" } : Jvm.MethodName)) ∈ lw_all := lw_g (lw_at lw_m3 71 rfl) rfl
theorem q632 : (Jvm.Cond.code ({ cls := "WithoutThem$AllTold", name := "become", desc := "(LWithoutThem$House;)V" } : Jvm.MethodName) prog_2_method_2_code (2 : Nat) (Option.none : Option Jvm.ClassFile.FieldType)) ∈ lw_all := lw_g (lw_at lw_m3 72 rfl) rfl
theorem q1456 : (Jvm.Cond.castable "WithoutThem$AllTold" "WithoutThem$Told") ∈ lw_tbl := lw_at lw_m6 176 rfl
theorem in_X25 : ∀ w ∈ wsX250, w ∈ lw_all := lw_in wsX250 [580, 581, 582] (by decide +kernel) (by decide +kernel)

/-! WithoutThem$CostTold -/
set_option maxRecDepth 100000
def RX26 : String := "WithoutThem$CostTold"
def TX26 : u_T := fun k => match k with
  | 0 => ("WithoutThem$Told", "start", "I", true)
  | 1 => ("WithoutThem$Told", "first", "I", true)
  | _ => ("WithoutThem$Told", "second", "I", true)
def tyX26 : Nat → FieldType := fun k => match k with
  | 0 => .int
  | 1 => .int
  | _ => .int
abbrev wsX260 : List Cond := u_ws RX26 TX26 3
theorem nmX26 : ∀ a, a < 3 → ∀ b, b < 3 → a ≠ b → (TX26 a).2.1 ≠ (TX26 b).2.1 := by decide +kernel
theorem tyX26_ok : ∀ k, k < 3 → parseFieldDescriptor (TX26 k).2.2.1 = some (tyX26 k) := by decide +kernel
abbrev cX26_init : ByteArray := prog_5_method_1_code
def yX26_init : MethodName := ⟨RX26, "<init>", "(III)V"⟩
def dkwX26_init_0 : List UInt8 := [42, 27, 28, 29, 183, 0, 1, 177]
abbrev dktX26_init_0 : List UInt8 := dkwX26_init_0 ++ []
theorem dksX26_init_0 : cX26_init.data.toList.drop 0 = dktX26_init_0 := by decide +kernel
theorem dX26_init_0 : decode cX26_init 0 = .ok (.aload_n 0, 1) := dk_42 (dk_at dksX26_init_0 0 rfl rfl)
theorem dX26_init_1 : decode cX26_init 1 = .ok (.iload_n 1, 1) := dk_27 (dk_at dksX26_init_0 1 rfl rfl)
theorem dX26_init_2 : decode cX26_init 2 = .ok (.iload_n 2, 1) := dk_28 (dk_at dksX26_init_0 2 rfl rfl)
theorem dX26_init_3 : decode cX26_init 3 = .ok (.iload_n 3, 1) := dk_29 (dk_at dksX26_init_0 3 rfl rfl)
theorem dX26_init_4 : decode cX26_init 4 = .ok (.invokespecial 1, 3) := dk_183 0 1 (dk_at dksX26_init_0 4 rfl rfl)
theorem dX26_init_7 : decode cX26_init 7 = .ok (.return_, 1) := dk_177 (dk_at dksX26_init_0 7 rfl rfl)
abbrev cX26_become : ByteArray := prog_5_method_2_code
def yX26_become : MethodName := ⟨RX26, "become", "(LWithoutThem$House;)V"⟩
def dkwX26_become_0 : List UInt8 := [43, 180, 0, 7, 42, 180, 0, 13, 42, 180, 0, 19, 79, 177]
abbrev dktX26_become_0 : List UInt8 := dkwX26_become_0 ++ []
theorem dksX26_become_0 : cX26_become.data.toList.drop 0 = dktX26_become_0 := by decide +kernel
theorem dX26_become_0 : decode cX26_become 0 = .ok (.aload_n 1, 1) := dk_43 (dk_at dksX26_become_0 0 rfl rfl)
theorem dX26_become_1 : decode cX26_become 1 = .ok (.getfield 7, 3) := dk_180 0 7 (dk_at dksX26_become_0 1 rfl rfl)
theorem dX26_become_4 : decode cX26_become 4 = .ok (.aload_n 0, 1) := dk_42 (dk_at dksX26_become_0 4 rfl rfl)
theorem dX26_become_5 : decode cX26_become 5 = .ok (.getfield 13, 3) := dk_180 0 13 (dk_at dksX26_become_0 5 rfl rfl)
theorem dX26_become_8 : decode cX26_become 8 = .ok (.aload_n 0, 1) := dk_42 (dk_at dksX26_become_0 8 rfl rfl)
theorem dX26_become_9 : decode cX26_become 9 = .ok (.getfield 19, 3) := dk_180 0 19 (dk_at dksX26_become_0 9 rfl rfl)
theorem dX26_become_12 : decode cX26_become 12 = .ok (.iastore, 1) := dk_79 (dk_at dksX26_become_0 12 rfl rfl)
theorem dX26_become_13 : decode cX26_become 13 = .ok (.return_, 1) := dk_177 (dk_at dksX26_become_0 13 rfl rfl)
theorem q110 : (Jvm.Cond.initialized "WithoutThem$CostTold") ∈ lw_all := lw_g (lw_at lw_m1 30 rfl) rfl
theorem q238 : (Jvm.Cond.fieldLinkNest "WithoutThem$CostTold" (7 : Nat) "WithoutThem$House" "costs" "[I" "WithoutThem") ∈ lw_tbl := lw_at lw_m1 158 rfl
theorem q530 : (Jvm.Cond.fieldLink "WithoutThem$CostTold" (13 : Nat) "WithoutThem$CostTold" "first" "I") ∈ lw_all := lw_g (lw_at lw_m2 210 rfl) rfl
theorem q531 : (Jvm.Cond.sameField "WithoutThem$CostTold" "WithoutThem$Told" "first" "I") ∈ lw_all := lw_g (lw_at lw_m2 211 rfl) rfl
theorem q533 : (Jvm.Cond.fieldLink "WithoutThem$CostTold" (19 : Nat) "WithoutThem$CostTold" "second" "I") ∈ lw_all := lw_g (lw_at lw_m2 213 rfl) rfl
theorem q534 : (Jvm.Cond.sameField "WithoutThem$CostTold" "WithoutThem$Told" "second" "I") ∈ lw_all := lw_g (lw_at lw_m2 214 rfl) rfl
theorem q585 : (Jvm.Cond.instantiable "WithoutThem$CostTold" (3 : Nat)) ∈ lw_all := lw_g (lw_at lw_m3 25 rfl) rfl
theorem q587 : (Jvm.Cond.instanceMethod ({ cls := "WithoutThem$CostTold", name := "<init>", desc := "(III)V" } : Jvm.MethodName)) ∈ lw_all := lw_g (lw_at lw_m3 27 rfl) rfl
theorem q588 : (Jvm.Cond.code ({ cls := "WithoutThem$CostTold", name := "<init>", desc := "(III)V" } : Jvm.MethodName) prog_5_method_1_code (4 : Nat) (Option.none : Option Jvm.ClassFile.FieldType)) ∈ lw_all := lw_g (lw_at lw_m3 28 rfl) rfl
theorem q589 : (Jvm.Cond.methodLink "WithoutThem$CostTold" (1 : Nat) ({ cls := "WithoutThem$HandTold", name := "<init>", desc := "(III)V" } : Jvm.MethodName)) ∈ lw_all := lw_g (lw_at lw_m3 29 rfl) rfl
theorem q590 : (Jvm.Cond.laysFinal "WithoutThem$CostTold" "WithoutThem$Told" "start" "I") ∈ lw_all := lw_g (lw_at lw_m3 30 rfl) rfl
theorem q591 : (Jvm.Cond.laysFinal "WithoutThem$CostTold" "WithoutThem$Told" "first" "I") ∈ lw_all := lw_g (lw_at lw_m3 31 rfl) rfl
theorem q592 : (Jvm.Cond.laysFinal "WithoutThem$CostTold" "WithoutThem$Told" "second" "I") ∈ lw_all := lw_g (lw_at lw_m3 32 rfl) rfl
theorem q593 : (Jvm.Cond.superclass "WithoutThem$CostTold" "WithoutThem$HandTold") ∈ lw_all := lw_g (lw_at lw_m3 33 rfl) rfl
theorem q606 : (Jvm.Cond.selects "WithoutThem$CostTold" ({ cls := "WithoutThem$Told", name := "comes", desc := "(LWithoutThem$House;)Z" } : Jvm.MethodName) ({ cls := "WithoutThem$Told", name := "comes", desc := "(LWithoutThem$House;)Z" } : Jvm.MethodName)) ∈ lw_all := lw_g (lw_at lw_m3 46 rfl) rfl
theorem q617 : (Jvm.Cond.selects "WithoutThem$CostTold" ({ cls := "WithoutThem$Told", name := "isGood", desc := "(LWithoutThem$House;)Z" } : Jvm.MethodName) ({ cls := "WithoutThem$HandTold", name := "isGood", desc := "(LWithoutThem$House;)Z" } : Jvm.MethodName)) ∈ lw_all := lw_g (lw_at lw_m3 57 rfl) rfl
theorem q636 : (Jvm.Cond.selects "WithoutThem$CostTold" ({ cls := "WithoutThem$Told", name := "become", desc := "(LWithoutThem$House;)V" } : Jvm.MethodName) ({ cls := "WithoutThem$CostTold", name := "become", desc := "(LWithoutThem$House;)V" } : Jvm.MethodName)) ∈ lw_all := lw_g (lw_at lw_m3 76 rfl) rfl
theorem q637 : (Jvm.Cond.instanceMethod ({ cls := "WithoutThem$CostTold", name := "become", desc := "(LWithoutThem$House;)V" } : Jvm.MethodName)) ∈ lw_all := lw_g (lw_at lw_m3 77 rfl) rfl
theorem q638 : (Jvm.Cond.code ({ cls := "WithoutThem$CostTold", name := "become", desc := "(LWithoutThem$House;)V" } : Jvm.MethodName) prog_5_method_2_code (2 : Nat) (Option.none : Option Jvm.ClassFile.FieldType)) ∈ lw_all := lw_g (lw_at lw_m3 78 rfl) rfl
theorem q1457 : (Jvm.Cond.castable "WithoutThem$CostTold" "WithoutThem$Told") ∈ lw_tbl := lw_at lw_m6 177 rfl
theorem in_X26 : ∀ w ∈ wsX260, w ∈ lw_all := lw_in wsX260 [590, 591, 592] (by decide +kernel) (by decide +kernel)

/-! WithoutThem$Both -/
set_option maxRecDepth 100000
def RX3 : String := "WithoutThem$Both"
abbrev cX3_init : ByteArray := prog_4_method_1_code
def yX3_init : MethodName := ⟨RX3, "<init>", "()V"⟩
theorem dX3_init_0 : decode cX3_init 0 = .ok (.aload_n 0, 1) := by decide +kernel
theorem dX3_init_1 : decode cX3_init 1 = .ok (.invokespecial 1, 3) := by decide +kernel
theorem dX3_init_4 : decode cX3_init 4 = .ok (.return_, 1) := by decide +kernel
abbrev cX3_kind : ByteArray := prog_4_method_2_code
def yX3_kind : MethodName := ⟨RX3, "kind", "()I"⟩
theorem dX3_kind_0 : decode cX3_kind 0 = .ok (.iconst 1, 1) := by decide +kernel
theorem dX3_kind_1 : decode cX3_kind 1 = .ok (.ireturn, 1) := by decide +kernel
abbrev cX3_may : ByteArray := prog_4_method_3_code
def yX3_may : MethodName := ⟨RX3, "may", "(III)Z"⟩
def dkwX3_may_1 : List UInt8 := [161, 0, 7, 4, 167, 0, 4, 3, 172]
abbrev dktX3_may_1 : List UInt8 := dkwX3_may_1 ++ []
def dkwX3_may_0 : List UInt8 := [42, 27, 28, 29, 183, 0, 7, 153, 0, 24, 27, 29, 126, 184, 0, 11, 5, 27, 184, 0, 11, 184, 0, 17]
abbrev dktX3_may_0 : List UInt8 := dkwX3_may_0 ++ dktX3_may_1
theorem dksX3_may_0 : cX3_may.data.toList.drop 0 = dktX3_may_0 := by decide +kernel
theorem dksX3_may_1 : cX3_may.data.toList.drop 24 = dktX3_may_1 := dk_seg dksX3_may_0 24 rfl rfl
theorem dX3_may_0 : decode cX3_may 0 = .ok (.aload_n 0, 1) := dk_42 (dk_at dksX3_may_0 0 rfl rfl)
theorem dX3_may_1 : decode cX3_may 1 = .ok (.iload_n 1, 1) := dk_27 (dk_at dksX3_may_0 1 rfl rfl)
theorem dX3_may_2 : decode cX3_may 2 = .ok (.iload_n 2, 1) := dk_28 (dk_at dksX3_may_0 2 rfl rfl)
theorem dX3_may_3 : decode cX3_may 3 = .ok (.iload_n 3, 1) := dk_29 (dk_at dksX3_may_0 3 rfl rfl)
theorem dX3_may_4 : decode cX3_may 4 = .ok (.invokespecial 7, 3) := dk_183 0 7 (dk_at dksX3_may_0 4 rfl rfl)
theorem dX3_may_7 : decode cX3_may 7 = .ok (.ifCond .eq 24, 3) := dk_153 0 24 (dk_at dksX3_may_0 7 rfl rfl)
theorem dX3_may_10 : decode cX3_may 10 = .ok (.iload_n 1, 1) := dk_27 (dk_at dksX3_may_0 10 rfl rfl)
theorem dX3_may_11 : decode cX3_may 11 = .ok (.iload_n 3, 1) := dk_29 (dk_at dksX3_may_0 11 rfl rfl)
theorem dX3_may_12 : decode cX3_may 12 = .ok (.iand, 1) := dk_126 (dk_at dksX3_may_0 12 rfl rfl)
theorem dX3_may_13 : decode cX3_may 13 = .ok (.invokestatic 11, 3) := dk_184 0 11 (dk_at dksX3_may_0 13 rfl rfl)
theorem dX3_may_16 : decode cX3_may 16 = .ok (.iconst 2, 1) := dk_5 (dk_at dksX3_may_0 16 rfl rfl)
theorem dX3_may_17 : decode cX3_may 17 = .ok (.iload_n 1, 1) := dk_27 (dk_at dksX3_may_0 17 rfl rfl)
theorem dX3_may_18 : decode cX3_may 18 = .ok (.invokestatic 11, 3) := dk_184 0 11 (dk_at dksX3_may_0 18 rfl rfl)
theorem dX3_may_21 : decode cX3_may 21 = .ok (.invokestatic 17, 3) := dk_184 0 17 (dk_at dksX3_may_0 21 rfl rfl)
theorem dX3_may_24 : decode cX3_may 24 = .ok (.if_icmp .lt 7, 3) := dk_161 0 7 (dk_at dksX3_may_1 0 rfl rfl)
theorem dX3_may_27 : decode cX3_may 27 = .ok (.iconst 1, 1) := dk_4 (dk_at dksX3_may_1 3 rfl rfl)
theorem dX3_may_28 : decode cX3_may 28 = .ok (.goto 4, 3) := dk_167 0 4 (dk_at dksX3_may_1 4 rfl rfl)
theorem dX3_may_31 : decode cX3_may 31 = .ok (.iconst 0, 1) := dk_3 (dk_at dksX3_may_1 7 rfl rfl)
theorem dX3_may_32 : decode cX3_may 32 = .ok (.ireturn, 1) := dk_172 (dk_at dksX3_may_1 8 rfl rfl)
theorem q84 : (Jvm.Cond.initialized "WithoutThem$Both") ∈ lw_all := lw_g (lw_at lw_m1 4 rfl) rfl
theorem q134 : (Jvm.Cond.instantiable "WithoutThem$Both" (0 : Nat)) ∈ lw_all := lw_g (lw_at lw_m1 54 rfl) rfl
theorem q136 : (Jvm.Cond.instanceMethod ({ cls := "WithoutThem$Both", name := "<init>", desc := "()V" } : Jvm.MethodName)) ∈ lw_all := lw_g (lw_at lw_m1 56 rfl) rfl
theorem q137 : (Jvm.Cond.code ({ cls := "WithoutThem$Both", name := "<init>", desc := "()V" } : Jvm.MethodName) prog_4_method_1_code (1 : Nat) (Option.none : Option Jvm.ClassFile.FieldType)) ∈ lw_all := lw_g (lw_at lw_m1 57 rfl) rfl
theorem q138 : (Jvm.Cond.methodLinkNest "WithoutThem$Both" (1 : Nat) ({ cls := "WithoutThem$Thing", name := "<init>", desc := "()V" } : Jvm.MethodName) "WithoutThem") ∈ lw_tbl := lw_at lw_m1 58 rfl
theorem q139 : (Jvm.Cond.superclass "WithoutThem$Both" "WithoutThem$Thing") ∈ lw_all := lw_g (lw_at lw_m1 59 rfl) rfl
theorem q663 : (Jvm.Cond.selects "WithoutThem$Both" ({ cls := "WithoutThem$Kind", name := "kind", desc := "()I" } : Jvm.MethodName) ({ cls := "WithoutThem$Both", name := "kind", desc := "()I" } : Jvm.MethodName)) ∈ lw_all := lw_g (lw_at lw_m3 103 rfl) rfl
theorem q664 : (Jvm.Cond.instanceMethod ({ cls := "WithoutThem$Both", name := "kind", desc := "()I" } : Jvm.MethodName)) ∈ lw_all := lw_g (lw_at lw_m3 104 rfl) rfl
theorem q665 : (Jvm.Cond.code ({ cls := "WithoutThem$Both", name := "kind", desc := "()I" } : Jvm.MethodName) prog_4_method_2_code (1 : Nat) (Option.some Jvm.ClassFile.FieldType.int)) ∈ lw_all := lw_g (lw_at lw_m3 105 rfl) rfl
theorem q688 : (Jvm.Cond.selects "WithoutThem$Both" ({ cls := "WithoutThem$Kind", name := "minutes", desc := "(II)I" } : Jvm.MethodName) ({ cls := "WithoutThem$Kind", name := "minutes", desc := "(II)I" } : Jvm.MethodName)) ∈ lw_all := lw_g (lw_at lw_m3 128 rfl) rfl
theorem q710 : (Jvm.Cond.sameMethod "WithoutThem$Both" "WithoutThem$Kind" "minutes" "(II)I") ∈ lw_all := lw_g (lw_at lw_m3 150 rfl) rfl
theorem q733 : (Jvm.Cond.selects "WithoutThem$Both" ({ cls := "WithoutThem$Kind", name := "may", desc := "(III)Z" } : Jvm.MethodName) ({ cls := "WithoutThem$Both", name := "may", desc := "(III)Z" } : Jvm.MethodName)) ∈ lw_all := lw_g (lw_at lw_m3 173 rfl) rfl
theorem q734 : (Jvm.Cond.instanceMethod ({ cls := "WithoutThem$Both", name := "may", desc := "(III)Z" } : Jvm.MethodName)) ∈ lw_all := lw_g (lw_at lw_m3 174 rfl) rfl
theorem q735 : (Jvm.Cond.code ({ cls := "WithoutThem$Both", name := "may", desc := "(III)Z" } : Jvm.MethodName) prog_4_method_3_code (4 : Nat) (Option.some Jvm.ClassFile.FieldType.boolean)) ∈ lw_all := lw_g (lw_at lw_m3 175 rfl) rfl
theorem q736 : (Jvm.Cond.methodLink "WithoutThem$Both" (7 : Nat) ({ cls := "WithoutThem$Thing", name := "may", desc := "(III)Z" } : Jvm.MethodName)) ∈ lw_all := lw_g (lw_at lw_m3 176 rfl) rfl
theorem q739 : (Jvm.Cond.methodLinkNest "WithoutThem$Both" (11 : Nat) ({ cls := "WithoutThem", name := "ones", desc := "(I)I" } : Jvm.MethodName) "WithoutThem") ∈ lw_tbl := lw_at lw_m3 179 rfl
theorem q740 : (Jvm.Cond.methodLink "WithoutThem$Both" (17 : Nat) ({ cls := "java/lang/Math", name := "min", desc := "(II)I" } : Jvm.MethodName)) ∈ lw_all := lw_g (lw_at lw_m3 180 rfl) rfl
theorem q1442 : (Jvm.Cond.castable "WithoutThem$Both" "WithoutThem$Kind") ∈ lw_tbl := lw_at lw_m6 162 rfl

/-! WithoutThem$Lit -/
set_option maxRecDepth 100000
def RX4 : String := "WithoutThem$Lit"
abbrev cX4_init : ByteArray := prog_12_method_1_code
def yX4_init : MethodName := ⟨RX4, "<init>", "()V"⟩
theorem dX4_init_0 : decode cX4_init 0 = .ok (.aload_n 0, 1) := by decide +kernel
theorem dX4_init_1 : decode cX4_init 1 = .ok (.invokespecial 1, 3) := by decide +kernel
theorem dX4_init_4 : decode cX4_init 4 = .ok (.return_, 1) := by decide +kernel
abbrev cX4_kind : ByteArray := prog_12_method_2_code
def yX4_kind : MethodName := ⟨RX4, "kind", "()I"⟩
theorem dX4_kind_0 : decode cX4_kind 0 = .ok (.iconst 2, 1) := by decide +kernel
theorem dX4_kind_1 : decode cX4_kind 1 = .ok (.ireturn, 1) := by decide +kernel
abbrev cX4_minutes : ByteArray := prog_12_method_3_code
def yX4_minutes : MethodName := ⟨RX4, "minutes", "(II)I"⟩
def dkwX4_minutes_1 : List UInt8 := [172]
abbrev dktX4_minutes_1 : List UInt8 := dkwX4_minutes_1 ++ []
def dkwX4_minutes_0 : List UInt8 := [42, 27, 28, 183, 0, 7, 62, 28, 3, 184, 0, 11, 153, 0, 11, 29, 4, 96, 5, 108, 167, 0, 4, 29]
abbrev dktX4_minutes_0 : List UInt8 := dkwX4_minutes_0 ++ dktX4_minutes_1
theorem dksX4_minutes_0 : cX4_minutes.data.toList.drop 0 = dktX4_minutes_0 := by decide +kernel
theorem dksX4_minutes_1 : cX4_minutes.data.toList.drop 24 = dktX4_minutes_1 := dk_seg dksX4_minutes_0 24 rfl rfl
theorem dX4_minutes_0 : decode cX4_minutes 0 = .ok (.aload_n 0, 1) := dk_42 (dk_at dksX4_minutes_0 0 rfl rfl)
theorem dX4_minutes_1 : decode cX4_minutes 1 = .ok (.iload_n 1, 1) := dk_27 (dk_at dksX4_minutes_0 1 rfl rfl)
theorem dX4_minutes_2 : decode cX4_minutes 2 = .ok (.iload_n 2, 1) := dk_28 (dk_at dksX4_minutes_0 2 rfl rfl)
theorem dX4_minutes_3 : decode cX4_minutes 3 = .ok (.invokespecial 7, 3) := dk_183 0 7 (dk_at dksX4_minutes_0 3 rfl rfl)
theorem dX4_minutes_6 : decode cX4_minutes 6 = .ok (.istore_n 3, 1) := dk_62 (dk_at dksX4_minutes_0 6 rfl rfl)
theorem dX4_minutes_7 : decode cX4_minutes 7 = .ok (.iload_n 2, 1) := dk_28 (dk_at dksX4_minutes_0 7 rfl rfl)
theorem dX4_minutes_8 : decode cX4_minutes 8 = .ok (.iconst 0, 1) := dk_3 (dk_at dksX4_minutes_0 8 rfl rfl)
theorem dX4_minutes_9 : decode cX4_minutes 9 = .ok (.invokestatic 11, 3) := dk_184 0 11 (dk_at dksX4_minutes_0 9 rfl rfl)
theorem dX4_minutes_12 : decode cX4_minutes 12 = .ok (.ifCond .eq 11, 3) := dk_153 0 11 (dk_at dksX4_minutes_0 12 rfl rfl)
theorem dX4_minutes_15 : decode cX4_minutes 15 = .ok (.iload_n 3, 1) := dk_29 (dk_at dksX4_minutes_0 15 rfl rfl)
theorem dX4_minutes_16 : decode cX4_minutes 16 = .ok (.iconst 1, 1) := dk_4 (dk_at dksX4_minutes_0 16 rfl rfl)
theorem dX4_minutes_17 : decode cX4_minutes 17 = .ok (.iadd, 1) := dk_96 (dk_at dksX4_minutes_0 17 rfl rfl)
theorem dX4_minutes_18 : decode cX4_minutes 18 = .ok (.iconst 2, 1) := dk_5 (dk_at dksX4_minutes_0 18 rfl rfl)
theorem dX4_minutes_19 : decode cX4_minutes 19 = .ok (.idiv, 1) := dk_108 (dk_at dksX4_minutes_0 19 rfl rfl)
theorem dX4_minutes_20 : decode cX4_minutes 20 = .ok (.goto 4, 3) := dk_167 0 4 (dk_at dksX4_minutes_0 20 rfl rfl)
theorem dX4_minutes_23 : decode cX4_minutes 23 = .ok (.iload_n 3, 1) := dk_29 (dk_at dksX4_minutes_0 23 rfl rfl)
theorem dX4_minutes_24 : decode cX4_minutes 24 = .ok (.ireturn, 1) := dk_172 (dk_at dksX4_minutes_1 0 rfl rfl)
theorem q85 : (Jvm.Cond.initialized "WithoutThem$Lit") ∈ lw_all := lw_g (lw_at lw_m1 5 rfl) rfl
theorem q141 : (Jvm.Cond.instantiable "WithoutThem$Lit" (0 : Nat)) ∈ lw_all := lw_g (lw_at lw_m1 61 rfl) rfl
theorem q143 : (Jvm.Cond.instanceMethod ({ cls := "WithoutThem$Lit", name := "<init>", desc := "()V" } : Jvm.MethodName)) ∈ lw_all := lw_g (lw_at lw_m1 63 rfl) rfl
theorem q144 : (Jvm.Cond.code ({ cls := "WithoutThem$Lit", name := "<init>", desc := "()V" } : Jvm.MethodName) prog_12_method_1_code (1 : Nat) (Option.none : Option Jvm.ClassFile.FieldType)) ∈ lw_all := lw_g (lw_at lw_m1 64 rfl) rfl
theorem q145 : (Jvm.Cond.methodLinkNest "WithoutThem$Lit" (1 : Nat) ({ cls := "WithoutThem$Thing", name := "<init>", desc := "()V" } : Jvm.MethodName) "WithoutThem") ∈ lw_tbl := lw_at lw_m1 65 rfl
theorem q146 : (Jvm.Cond.superclass "WithoutThem$Lit" "WithoutThem$Thing") ∈ lw_all := lw_g (lw_at lw_m1 66 rfl) rfl
theorem q669 : (Jvm.Cond.selects "WithoutThem$Lit" ({ cls := "WithoutThem$Kind", name := "kind", desc := "()I" } : Jvm.MethodName) ({ cls := "WithoutThem$Lit", name := "kind", desc := "()I" } : Jvm.MethodName)) ∈ lw_all := lw_g (lw_at lw_m3 109 rfl) rfl
theorem q670 : (Jvm.Cond.instanceMethod ({ cls := "WithoutThem$Lit", name := "kind", desc := "()I" } : Jvm.MethodName)) ∈ lw_all := lw_g (lw_at lw_m3 110 rfl) rfl
theorem q671 : (Jvm.Cond.code ({ cls := "WithoutThem$Lit", name := "kind", desc := "()I" } : Jvm.MethodName) prog_12_method_2_code (1 : Nat) (Option.some Jvm.ClassFile.FieldType.int)) ∈ lw_all := lw_g (lw_at lw_m3 111 rfl) rfl
theorem q690 : (Jvm.Cond.selects "WithoutThem$Lit" ({ cls := "WithoutThem$Kind", name := "minutes", desc := "(II)I" } : Jvm.MethodName) ({ cls := "WithoutThem$Lit", name := "minutes", desc := "(II)I" } : Jvm.MethodName)) ∈ lw_all := lw_g (lw_at lw_m3 130 rfl) rfl
theorem q691 : (Jvm.Cond.instanceMethod ({ cls := "WithoutThem$Lit", name := "minutes", desc := "(II)I" } : Jvm.MethodName)) ∈ lw_all := lw_g (lw_at lw_m3 131 rfl) rfl
theorem q692 : (Jvm.Cond.code ({ cls := "WithoutThem$Lit", name := "minutes", desc := "(II)I" } : Jvm.MethodName) prog_12_method_3_code (4 : Nat) (Option.some Jvm.ClassFile.FieldType.int)) ∈ lw_all := lw_g (lw_at lw_m3 132 rfl) rfl
theorem q693 : (Jvm.Cond.methodLink "WithoutThem$Lit" (7 : Nat) ({ cls := "WithoutThem$Thing", name := "minutes", desc := "(II)I" } : Jvm.MethodName)) ∈ lw_all := lw_g (lw_at lw_m3 133 rfl) rfl
theorem q697 : (Jvm.Cond.methodLinkNest "WithoutThem$Lit" (11 : Nat) ({ cls := "WithoutThem", name := "has", desc := "(II)Z" } : Jvm.MethodName) "WithoutThem") ∈ lw_tbl := lw_at lw_m3 137 rfl
theorem q747 : (Jvm.Cond.selects "WithoutThem$Lit" ({ cls := "WithoutThem$Kind", name := "may", desc := "(III)Z" } : Jvm.MethodName) ({ cls := "WithoutThem$Thing", name := "may", desc := "(III)Z" } : Jvm.MethodName)) ∈ lw_all := lw_g (lw_at lw_m3 187 rfl) rfl
theorem q1436 : (Jvm.Cond.sameMethod "WithoutThem$Lit" "WithoutThem$Lit" "minutes" "(II)I") ∈ lw_all := lw_g (lw_at lw_m6 156 rfl) rfl
theorem q1443 : (Jvm.Cond.castable "WithoutThem$Lit" "WithoutThem$Kind") ∈ lw_tbl := lw_at lw_m6 163 rfl

/-! WithoutThem$Felt -/
set_option maxRecDepth 100000
def RX5 : String := "WithoutThem$Felt"
abbrev cX5_init : ByteArray := prog_7_method_1_code
def yX5_init : MethodName := ⟨RX5, "<init>", "()V"⟩
theorem dX5_init_0 : decode cX5_init 0 = .ok (.aload_n 0, 1) := by decide +kernel
theorem dX5_init_1 : decode cX5_init 1 = .ok (.invokespecial 1, 3) := by decide +kernel
theorem dX5_init_4 : decode cX5_init 4 = .ok (.return_, 1) := by decide +kernel
abbrev cX5_kind : ByteArray := prog_7_method_2_code
def yX5_kind : MethodName := ⟨RX5, "kind", "()I"⟩
theorem dX5_kind_0 : decode cX5_kind 0 = .ok (.iconst 3, 1) := by decide +kernel
theorem dX5_kind_1 : decode cX5_kind 1 = .ok (.ireturn, 1) := by decide +kernel
abbrev cX5_may : ByteArray := prog_7_method_3_code
def yX5_may : MethodName := ⟨RX5, "may", "(III)Z"⟩
def dkwX5_may_1 : List UInt8 := [3, 172]
abbrev dktX5_may_1 : List UInt8 := dkwX5_may_1 ++ []
def dkwX5_may_0 : List UInt8 := [42, 27, 3, 29, 183, 0, 7, 154, 0, 13, 42, 3, 28, 29, 183, 0, 7, 153, 0, 7, 4, 167, 0, 4]
abbrev dktX5_may_0 : List UInt8 := dkwX5_may_0 ++ dktX5_may_1
theorem dksX5_may_0 : cX5_may.data.toList.drop 0 = dktX5_may_0 := by decide +kernel
theorem dksX5_may_1 : cX5_may.data.toList.drop 24 = dktX5_may_1 := dk_seg dksX5_may_0 24 rfl rfl
theorem dX5_may_0 : decode cX5_may 0 = .ok (.aload_n 0, 1) := dk_42 (dk_at dksX5_may_0 0 rfl rfl)
theorem dX5_may_1 : decode cX5_may 1 = .ok (.iload_n 1, 1) := dk_27 (dk_at dksX5_may_0 1 rfl rfl)
theorem dX5_may_2 : decode cX5_may 2 = .ok (.iconst 0, 1) := dk_3 (dk_at dksX5_may_0 2 rfl rfl)
theorem dX5_may_3 : decode cX5_may 3 = .ok (.iload_n 3, 1) := dk_29 (dk_at dksX5_may_0 3 rfl rfl)
theorem dX5_may_4 : decode cX5_may 4 = .ok (.invokespecial 7, 3) := dk_183 0 7 (dk_at dksX5_may_0 4 rfl rfl)
theorem dX5_may_7 : decode cX5_may 7 = .ok (.ifCond .ne 13, 3) := dk_154 0 13 (dk_at dksX5_may_0 7 rfl rfl)
theorem dX5_may_10 : decode cX5_may 10 = .ok (.aload_n 0, 1) := dk_42 (dk_at dksX5_may_0 10 rfl rfl)
theorem dX5_may_11 : decode cX5_may 11 = .ok (.iconst 0, 1) := dk_3 (dk_at dksX5_may_0 11 rfl rfl)
theorem dX5_may_12 : decode cX5_may 12 = .ok (.iload_n 2, 1) := dk_28 (dk_at dksX5_may_0 12 rfl rfl)
theorem dX5_may_13 : decode cX5_may 13 = .ok (.iload_n 3, 1) := dk_29 (dk_at dksX5_may_0 13 rfl rfl)
theorem dX5_may_14 : decode cX5_may 14 = .ok (.invokespecial 7, 3) := dk_183 0 7 (dk_at dksX5_may_0 14 rfl rfl)
theorem dX5_may_17 : decode cX5_may 17 = .ok (.ifCond .eq 7, 3) := dk_153 0 7 (dk_at dksX5_may_0 17 rfl rfl)
theorem dX5_may_20 : decode cX5_may 20 = .ok (.iconst 1, 1) := dk_4 (dk_at dksX5_may_0 20 rfl rfl)
theorem dX5_may_21 : decode cX5_may 21 = .ok (.goto 4, 3) := dk_167 0 4 (dk_at dksX5_may_0 21 rfl rfl)
theorem dX5_may_24 : decode cX5_may 24 = .ok (.iconst 0, 1) := dk_3 (dk_at dksX5_may_1 0 rfl rfl)
theorem dX5_may_25 : decode cX5_may 25 = .ok (.ireturn, 1) := dk_172 (dk_at dksX5_may_1 1 rfl rfl)
theorem q86 : (Jvm.Cond.initialized "WithoutThem$Felt") ∈ lw_all := lw_g (lw_at lw_m1 6 rfl) rfl
theorem q148 : (Jvm.Cond.instantiable "WithoutThem$Felt" (0 : Nat)) ∈ lw_all := lw_g (lw_at lw_m1 68 rfl) rfl
theorem q150 : (Jvm.Cond.instanceMethod ({ cls := "WithoutThem$Felt", name := "<init>", desc := "()V" } : Jvm.MethodName)) ∈ lw_all := lw_g (lw_at lw_m1 70 rfl) rfl
theorem q151 : (Jvm.Cond.code ({ cls := "WithoutThem$Felt", name := "<init>", desc := "()V" } : Jvm.MethodName) prog_7_method_1_code (1 : Nat) (Option.none : Option Jvm.ClassFile.FieldType)) ∈ lw_all := lw_g (lw_at lw_m1 71 rfl) rfl
theorem q152 : (Jvm.Cond.methodLinkNest "WithoutThem$Felt" (1 : Nat) ({ cls := "WithoutThem$Thing", name := "<init>", desc := "()V" } : Jvm.MethodName) "WithoutThem") ∈ lw_tbl := lw_at lw_m1 72 rfl
theorem q153 : (Jvm.Cond.superclass "WithoutThem$Felt" "WithoutThem$Thing") ∈ lw_all := lw_g (lw_at lw_m1 73 rfl) rfl
theorem q666 : (Jvm.Cond.selects "WithoutThem$Felt" ({ cls := "WithoutThem$Kind", name := "kind", desc := "()I" } : Jvm.MethodName) ({ cls := "WithoutThem$Felt", name := "kind", desc := "()I" } : Jvm.MethodName)) ∈ lw_all := lw_g (lw_at lw_m3 106 rfl) rfl
theorem q667 : (Jvm.Cond.instanceMethod ({ cls := "WithoutThem$Felt", name := "kind", desc := "()I" } : Jvm.MethodName)) ∈ lw_all := lw_g (lw_at lw_m3 107 rfl) rfl
theorem q668 : (Jvm.Cond.code ({ cls := "WithoutThem$Felt", name := "kind", desc := "()I" } : Jvm.MethodName) prog_7_method_2_code (1 : Nat) (Option.some Jvm.ClassFile.FieldType.int)) ∈ lw_all := lw_g (lw_at lw_m3 108 rfl) rfl
theorem q689 : (Jvm.Cond.selects "WithoutThem$Felt" ({ cls := "WithoutThem$Kind", name := "minutes", desc := "(II)I" } : Jvm.MethodName) ({ cls := "WithoutThem$Kind", name := "minutes", desc := "(II)I" } : Jvm.MethodName)) ∈ lw_all := lw_g (lw_at lw_m3 129 rfl) rfl
theorem q743 : (Jvm.Cond.selects "WithoutThem$Felt" ({ cls := "WithoutThem$Kind", name := "may", desc := "(III)Z" } : Jvm.MethodName) ({ cls := "WithoutThem$Felt", name := "may", desc := "(III)Z" } : Jvm.MethodName)) ∈ lw_all := lw_g (lw_at lw_m3 183 rfl) rfl
theorem q744 : (Jvm.Cond.instanceMethod ({ cls := "WithoutThem$Felt", name := "may", desc := "(III)Z" } : Jvm.MethodName)) ∈ lw_all := lw_g (lw_at lw_m3 184 rfl) rfl
theorem q745 : (Jvm.Cond.code ({ cls := "WithoutThem$Felt", name := "may", desc := "(III)Z" } : Jvm.MethodName) prog_7_method_3_code (4 : Nat) (Option.some Jvm.ClassFile.FieldType.boolean)) ∈ lw_all := lw_g (lw_at lw_m3 185 rfl) rfl
theorem q746 : (Jvm.Cond.methodLink "WithoutThem$Felt" (7 : Nat) ({ cls := "WithoutThem$Thing", name := "may", desc := "(III)Z" } : Jvm.MethodName)) ∈ lw_all := lw_g (lw_at lw_m3 186 rfl) rfl
theorem q1444 : (Jvm.Cond.castable "WithoutThem$Felt" "WithoutThem$Kind") ∈ lw_tbl := lw_at lw_m6 164 rfl

/-! WithoutThem$Wide -/
set_option maxRecDepth 100000
def RX6 : String := "WithoutThem$Wide"
abbrev cX6_init : ByteArray := prog_25_method_1_code
def yX6_init : MethodName := ⟨RX6, "<init>", "()V"⟩
theorem dX6_init_0 : decode cX6_init 0 = .ok (.aload_n 0, 1) := by decide +kernel
theorem dX6_init_1 : decode cX6_init 1 = .ok (.invokespecial 1, 3) := by decide +kernel
theorem dX6_init_4 : decode cX6_init 4 = .ok (.return_, 1) := by decide +kernel
abbrev cX6_kind : ByteArray := prog_25_method_2_code
def yX6_kind : MethodName := ⟨RX6, "kind", "()I"⟩
theorem dX6_kind_0 : decode cX6_kind 0 = .ok (.iconst 4, 1) := by decide +kernel
theorem dX6_kind_1 : decode cX6_kind 1 = .ok (.ireturn, 1) := by decide +kernel
abbrev cX6_minutes : ByteArray := prog_25_method_3_code
def yX6_minutes : MethodName := ⟨RX6, "minutes", "(II)I"⟩
def dkwX6_minutes_0 : List UInt8 := [42, 27, 28, 183, 0, 7, 28, 184, 0, 11, 96, 172]
abbrev dktX6_minutes_0 : List UInt8 := dkwX6_minutes_0 ++ []
theorem dksX6_minutes_0 : cX6_minutes.data.toList.drop 0 = dktX6_minutes_0 := by decide +kernel
theorem dX6_minutes_0 : decode cX6_minutes 0 = .ok (.aload_n 0, 1) := dk_42 (dk_at dksX6_minutes_0 0 rfl rfl)
theorem dX6_minutes_1 : decode cX6_minutes 1 = .ok (.iload_n 1, 1) := dk_27 (dk_at dksX6_minutes_0 1 rfl rfl)
theorem dX6_minutes_2 : decode cX6_minutes 2 = .ok (.iload_n 2, 1) := dk_28 (dk_at dksX6_minutes_0 2 rfl rfl)
theorem dX6_minutes_3 : decode cX6_minutes 3 = .ok (.invokespecial 7, 3) := dk_183 0 7 (dk_at dksX6_minutes_0 3 rfl rfl)
theorem dX6_minutes_6 : decode cX6_minutes 6 = .ok (.iload_n 2, 1) := dk_28 (dk_at dksX6_minutes_0 6 rfl rfl)
theorem dX6_minutes_7 : decode cX6_minutes 7 = .ok (.invokestatic 11, 3) := dk_184 0 11 (dk_at dksX6_minutes_0 7 rfl rfl)
theorem dX6_minutes_10 : decode cX6_minutes 10 = .ok (.iadd, 1) := dk_96 (dk_at dksX6_minutes_0 10 rfl rfl)
theorem dX6_minutes_11 : decode cX6_minutes 11 = .ok (.ireturn, 1) := dk_172 (dk_at dksX6_minutes_0 11 rfl rfl)
theorem q87 : (Jvm.Cond.initialized "WithoutThem$Wide") ∈ lw_all := lw_g (lw_at lw_m1 7 rfl) rfl
theorem q155 : (Jvm.Cond.instantiable "WithoutThem$Wide" (0 : Nat)) ∈ lw_all := lw_g (lw_at lw_m1 75 rfl) rfl
theorem q157 : (Jvm.Cond.instanceMethod ({ cls := "WithoutThem$Wide", name := "<init>", desc := "()V" } : Jvm.MethodName)) ∈ lw_all := lw_g (lw_at lw_m1 77 rfl) rfl
theorem q158 : (Jvm.Cond.code ({ cls := "WithoutThem$Wide", name := "<init>", desc := "()V" } : Jvm.MethodName) prog_25_method_1_code (1 : Nat) (Option.none : Option Jvm.ClassFile.FieldType)) ∈ lw_all := lw_g (lw_at lw_m1 78 rfl) rfl
theorem q159 : (Jvm.Cond.methodLinkNest "WithoutThem$Wide" (1 : Nat) ({ cls := "WithoutThem$Both", name := "<init>", desc := "()V" } : Jvm.MethodName) "WithoutThem") ∈ lw_tbl := lw_at lw_m1 79 rfl
theorem q160 : (Jvm.Cond.superclass "WithoutThem$Wide" "WithoutThem$Both") ∈ lw_all := lw_g (lw_at lw_m1 80 rfl) rfl
theorem q678 : (Jvm.Cond.selects "WithoutThem$Wide" ({ cls := "WithoutThem$Kind", name := "kind", desc := "()I" } : Jvm.MethodName) ({ cls := "WithoutThem$Wide", name := "kind", desc := "()I" } : Jvm.MethodName)) ∈ lw_all := lw_g (lw_at lw_m3 118 rfl) rfl
theorem q679 : (Jvm.Cond.instanceMethod ({ cls := "WithoutThem$Wide", name := "kind", desc := "()I" } : Jvm.MethodName)) ∈ lw_all := lw_g (lw_at lw_m3 119 rfl) rfl
theorem q680 : (Jvm.Cond.code ({ cls := "WithoutThem$Wide", name := "kind", desc := "()I" } : Jvm.MethodName) prog_25_method_2_code (1 : Nat) (Option.some Jvm.ClassFile.FieldType.int)) ∈ lw_all := lw_g (lw_at lw_m3 120 rfl) rfl
theorem q706 : (Jvm.Cond.selects "WithoutThem$Wide" ({ cls := "WithoutThem$Kind", name := "minutes", desc := "(II)I" } : Jvm.MethodName) ({ cls := "WithoutThem$Wide", name := "minutes", desc := "(II)I" } : Jvm.MethodName)) ∈ lw_all := lw_g (lw_at lw_m3 146 rfl) rfl
theorem q707 : (Jvm.Cond.instanceMethod ({ cls := "WithoutThem$Wide", name := "minutes", desc := "(II)I" } : Jvm.MethodName)) ∈ lw_all := lw_g (lw_at lw_m3 147 rfl) rfl
theorem q708 : (Jvm.Cond.code ({ cls := "WithoutThem$Wide", name := "minutes", desc := "(II)I" } : Jvm.MethodName) prog_25_method_3_code (3 : Nat) (Option.some Jvm.ClassFile.FieldType.int)) ∈ lw_all := lw_g (lw_at lw_m3 148 rfl) rfl
theorem q709 : (Jvm.Cond.methodLink "WithoutThem$Wide" (7 : Nat) ({ cls := "WithoutThem$Both", name := "minutes", desc := "(II)I" } : Jvm.MethodName)) ∈ lw_all := lw_g (lw_at lw_m3 149 rfl) rfl
theorem q711 : (Jvm.Cond.methodLinkNest "WithoutThem$Wide" (11 : Nat) ({ cls := "WithoutThem", name := "ones", desc := "(I)I" } : Jvm.MethodName) "WithoutThem") ∈ lw_tbl := lw_at lw_m3 151 rfl
theorem q750 : (Jvm.Cond.selects "WithoutThem$Wide" ({ cls := "WithoutThem$Kind", name := "may", desc := "(III)Z" } : Jvm.MethodName) ({ cls := "WithoutThem$Both", name := "may", desc := "(III)Z" } : Jvm.MethodName)) ∈ lw_all := lw_g (lw_at lw_m3 190 rfl) rfl
theorem q1445 : (Jvm.Cond.castable "WithoutThem$Wide" "WithoutThem$Kind") ∈ lw_tbl := lw_at lw_m6 165 rfl

/-! WithoutThem$Pair -/
set_option maxRecDepth 100000
def RX7 : String := "WithoutThem$Pair"
abbrev cX7_init : ByteArray := prog_14_method_1_code
def yX7_init : MethodName := ⟨RX7, "<init>", "()V"⟩
theorem dX7_init_0 : decode cX7_init 0 = .ok (.aload_n 0, 1) := by decide +kernel
theorem dX7_init_1 : decode cX7_init 1 = .ok (.invokespecial 1, 3) := by decide +kernel
theorem dX7_init_4 : decode cX7_init 4 = .ok (.return_, 1) := by decide +kernel
abbrev cX7_kind : ByteArray := prog_14_method_2_code
def yX7_kind : MethodName := ⟨RX7, "kind", "()I"⟩
theorem dX7_kind_0 : decode cX7_kind 0 = .ok (.iconst 5, 1) := by decide +kernel
theorem dX7_kind_1 : decode cX7_kind 1 = .ok (.ireturn, 1) := by decide +kernel
abbrev cX7_minutes : ByteArray := prog_14_method_3_code
def yX7_minutes : MethodName := ⟨RX7, "minutes", "(II)I"⟩
def dkwX7_minutes_0 : List UInt8 := [42, 27, 28, 183, 0, 7, 28, 4, 184, 0, 11, 153, 0, 7, 4, 167, 0, 4, 5, 104, 172]
abbrev dktX7_minutes_0 : List UInt8 := dkwX7_minutes_0 ++ []
theorem dksX7_minutes_0 : cX7_minutes.data.toList.drop 0 = dktX7_minutes_0 := by decide +kernel
theorem dX7_minutes_0 : decode cX7_minutes 0 = .ok (.aload_n 0, 1) := dk_42 (dk_at dksX7_minutes_0 0 rfl rfl)
theorem dX7_minutes_1 : decode cX7_minutes 1 = .ok (.iload_n 1, 1) := dk_27 (dk_at dksX7_minutes_0 1 rfl rfl)
theorem dX7_minutes_2 : decode cX7_minutes 2 = .ok (.iload_n 2, 1) := dk_28 (dk_at dksX7_minutes_0 2 rfl rfl)
theorem dX7_minutes_3 : decode cX7_minutes 3 = .ok (.invokespecial 7, 3) := dk_183 0 7 (dk_at dksX7_minutes_0 3 rfl rfl)
theorem dX7_minutes_6 : decode cX7_minutes 6 = .ok (.iload_n 2, 1) := dk_28 (dk_at dksX7_minutes_0 6 rfl rfl)
theorem dX7_minutes_7 : decode cX7_minutes 7 = .ok (.iconst 1, 1) := dk_4 (dk_at dksX7_minutes_0 7 rfl rfl)
theorem dX7_minutes_8 : decode cX7_minutes 8 = .ok (.invokestatic 11, 3) := dk_184 0 11 (dk_at dksX7_minutes_0 8 rfl rfl)
theorem dX7_minutes_11 : decode cX7_minutes 11 = .ok (.ifCond .eq 7, 3) := dk_153 0 7 (dk_at dksX7_minutes_0 11 rfl rfl)
theorem dX7_minutes_14 : decode cX7_minutes 14 = .ok (.iconst 1, 1) := dk_4 (dk_at dksX7_minutes_0 14 rfl rfl)
theorem dX7_minutes_15 : decode cX7_minutes 15 = .ok (.goto 4, 3) := dk_167 0 4 (dk_at dksX7_minutes_0 15 rfl rfl)
theorem dX7_minutes_18 : decode cX7_minutes 18 = .ok (.iconst 2, 1) := dk_5 (dk_at dksX7_minutes_0 18 rfl rfl)
theorem dX7_minutes_19 : decode cX7_minutes 19 = .ok (.imul, 1) := dk_104 (dk_at dksX7_minutes_0 19 rfl rfl)
theorem dX7_minutes_20 : decode cX7_minutes 20 = .ok (.ireturn, 1) := dk_172 (dk_at dksX7_minutes_0 20 rfl rfl)
theorem q88 : (Jvm.Cond.initialized "WithoutThem$Pair") ∈ lw_all := lw_g (lw_at lw_m1 8 rfl) rfl
theorem q162 : (Jvm.Cond.instantiable "WithoutThem$Pair" (0 : Nat)) ∈ lw_all := lw_g (lw_at lw_m1 82 rfl) rfl
theorem q164 : (Jvm.Cond.instanceMethod ({ cls := "WithoutThem$Pair", name := "<init>", desc := "()V" } : Jvm.MethodName)) ∈ lw_all := lw_g (lw_at lw_m1 84 rfl) rfl
theorem q165 : (Jvm.Cond.code ({ cls := "WithoutThem$Pair", name := "<init>", desc := "()V" } : Jvm.MethodName) prog_14_method_1_code (1 : Nat) (Option.none : Option Jvm.ClassFile.FieldType)) ∈ lw_all := lw_g (lw_at lw_m1 85 rfl) rfl
theorem q166 : (Jvm.Cond.methodLinkNest "WithoutThem$Pair" (1 : Nat) ({ cls := "WithoutThem$Lit", name := "<init>", desc := "()V" } : Jvm.MethodName) "WithoutThem") ∈ lw_tbl := lw_at lw_m1 86 rfl
theorem q167 : (Jvm.Cond.superclass "WithoutThem$Pair" "WithoutThem$Lit") ∈ lw_all := lw_g (lw_at lw_m1 87 rfl) rfl
theorem q672 : (Jvm.Cond.selects "WithoutThem$Pair" ({ cls := "WithoutThem$Kind", name := "kind", desc := "()I" } : Jvm.MethodName) ({ cls := "WithoutThem$Pair", name := "kind", desc := "()I" } : Jvm.MethodName)) ∈ lw_all := lw_g (lw_at lw_m3 112 rfl) rfl
theorem q673 : (Jvm.Cond.instanceMethod ({ cls := "WithoutThem$Pair", name := "kind", desc := "()I" } : Jvm.MethodName)) ∈ lw_all := lw_g (lw_at lw_m3 113 rfl) rfl
theorem q674 : (Jvm.Cond.code ({ cls := "WithoutThem$Pair", name := "kind", desc := "()I" } : Jvm.MethodName) prog_14_method_2_code (1 : Nat) (Option.some Jvm.ClassFile.FieldType.int)) ∈ lw_all := lw_g (lw_at lw_m3 114 rfl) rfl
theorem q700 : (Jvm.Cond.selects "WithoutThem$Pair" ({ cls := "WithoutThem$Kind", name := "minutes", desc := "(II)I" } : Jvm.MethodName) ({ cls := "WithoutThem$Pair", name := "minutes", desc := "(II)I" } : Jvm.MethodName)) ∈ lw_all := lw_g (lw_at lw_m3 140 rfl) rfl
theorem q701 : (Jvm.Cond.instanceMethod ({ cls := "WithoutThem$Pair", name := "minutes", desc := "(II)I" } : Jvm.MethodName)) ∈ lw_all := lw_g (lw_at lw_m3 141 rfl) rfl
theorem q702 : (Jvm.Cond.code ({ cls := "WithoutThem$Pair", name := "minutes", desc := "(II)I" } : Jvm.MethodName) prog_14_method_3_code (3 : Nat) (Option.some Jvm.ClassFile.FieldType.int)) ∈ lw_all := lw_g (lw_at lw_m3 142 rfl) rfl
theorem q703 : (Jvm.Cond.methodLink "WithoutThem$Pair" (7 : Nat) ({ cls := "WithoutThem$Lit", name := "minutes", desc := "(II)I" } : Jvm.MethodName)) ∈ lw_all := lw_g (lw_at lw_m3 143 rfl) rfl
theorem q704 : (Jvm.Cond.methodLinkNest "WithoutThem$Pair" (11 : Nat) ({ cls := "WithoutThem", name := "has", desc := "(II)Z" } : Jvm.MethodName) "WithoutThem") ∈ lw_tbl := lw_at lw_m3 144 rfl
theorem q748 : (Jvm.Cond.selects "WithoutThem$Pair" ({ cls := "WithoutThem$Kind", name := "may", desc := "(III)Z" } : Jvm.MethodName) ({ cls := "WithoutThem$Thing", name := "may", desc := "(III)Z" } : Jvm.MethodName)) ∈ lw_all := lw_g (lw_at lw_m3 188 rfl) rfl
theorem q1446 : (Jvm.Cond.castable "WithoutThem$Pair" "WithoutThem$Kind") ∈ lw_tbl := lw_at lw_m6 166 rfl

/-! WithoutThem$Seeker -/
set_option maxRecDepth 100000
def RX8 : String := "WithoutThem$Seeker"
abbrev cX8_init : ByteArray := prog_21_method_1_code
def yX8_init : MethodName := ⟨RX8, "<init>", "()V"⟩
theorem dX8_init_0 : decode cX8_init 0 = .ok (.aload_n 0, 1) := by decide +kernel
theorem dX8_init_1 : decode cX8_init 1 = .ok (.invokespecial 1, 3) := by decide +kernel
theorem dX8_init_4 : decode cX8_init 4 = .ok (.return_, 1) := by decide +kernel
theorem q89 : (Jvm.Cond.initialized "WithoutThem$Seeker") ∈ lw_all := lw_g (lw_at lw_m1 9 rfl) rfl
theorem q176 : (Jvm.Cond.instanceMethod ({ cls := "WithoutThem$Seeker", name := "<init>", desc := "()V" } : Jvm.MethodName)) ∈ lw_all := lw_g (lw_at lw_m1 96 rfl) rfl
theorem q177 : (Jvm.Cond.code ({ cls := "WithoutThem$Seeker", name := "<init>", desc := "()V" } : Jvm.MethodName) prog_21_method_1_code (1 : Nat) (Option.none : Option Jvm.ClassFile.FieldType)) ∈ lw_all := lw_g (lw_at lw_m1 97 rfl) rfl
theorem q178 : (Jvm.Cond.methodLink "WithoutThem$Seeker" (1 : Nat) ({ cls := "java/lang/Object", name := "<init>", desc := "()V" } : Jvm.MethodName)) ∈ lw_all := lw_g (lw_at lw_m1 98 rfl) rfl
theorem q892 : (Jvm.Cond.declares ({ cls := "WithoutThem$Seeker", name := "against", desc := "(LWithoutThem$House;II)I" } : Jvm.MethodName)) ∈ lw_tbl := lw_at lw_m4 92 rfl
theorem q893 : (Jvm.Cond.sameMethod "WithoutThem$Seeker" "WithoutThem$Seeker" "against" "(LWithoutThem$House;II)I") ∈ lw_all := lw_g (lw_at lw_m4 93 rfl) rfl

/-! WithoutThem$PlainSeeker -/
set_option maxRecDepth 100000
def RX9 : String := "WithoutThem$PlainSeeker"
abbrev cX9_init : ByteArray := prog_15_method_1_code
def yX9_init : MethodName := ⟨RX9, "<init>", "()V"⟩
theorem dX9_init_0 : decode cX9_init 0 = .ok (.aload_n 0, 1) := by decide +kernel
theorem dX9_init_1 : decode cX9_init 1 = .ok (.invokespecial 1, 3) := by decide +kernel
theorem dX9_init_4 : decode cX9_init 4 = .ok (.return_, 1) := by decide +kernel
abbrev cX9_against : ByteArray := prog_15_method_2_code
def yX9_against : MethodName := ⟨RX9, "against", "(LWithoutThem$House;II)I"⟩
theorem dX9_against_0 : decode cX9_against 0 = .ok (.iconst 0, 1) := by decide +kernel
theorem dX9_against_1 : decode cX9_against 1 = .ok (.ireturn, 1) := by decide +kernel
theorem q90 : (Jvm.Cond.initialized "WithoutThem$PlainSeeker") ∈ lw_all := lw_g (lw_at lw_m1 10 rfl) rfl
theorem q171 : (Jvm.Cond.instantiable "WithoutThem$PlainSeeker" (0 : Nat)) ∈ lw_all := lw_g (lw_at lw_m1 91 rfl) rfl
theorem q173 : (Jvm.Cond.instanceMethod ({ cls := "WithoutThem$PlainSeeker", name := "<init>", desc := "()V" } : Jvm.MethodName)) ∈ lw_all := lw_g (lw_at lw_m1 93 rfl) rfl
theorem q174 : (Jvm.Cond.code ({ cls := "WithoutThem$PlainSeeker", name := "<init>", desc := "()V" } : Jvm.MethodName) prog_15_method_1_code (1 : Nat) (Option.none : Option Jvm.ClassFile.FieldType)) ∈ lw_all := lw_g (lw_at lw_m1 94 rfl) rfl
theorem q175 : (Jvm.Cond.methodLinkNest "WithoutThem$PlainSeeker" (1 : Nat) ({ cls := "WithoutThem$Seeker", name := "<init>", desc := "()V" } : Jvm.MethodName) "WithoutThem") ∈ lw_tbl := lw_at lw_m1 95 rfl
theorem q179 : (Jvm.Cond.superclass "WithoutThem$PlainSeeker" "WithoutThem$Seeker") ∈ lw_all := lw_g (lw_at lw_m1 99 rfl) rfl
theorem q903 : (Jvm.Cond.selects "WithoutThem$PlainSeeker" ({ cls := "WithoutThem$Seeker", name := "against", desc := "(LWithoutThem$House;II)I" } : Jvm.MethodName) ({ cls := "WithoutThem$PlainSeeker", name := "against", desc := "(LWithoutThem$House;II)I" } : Jvm.MethodName)) ∈ lw_all := lw_g (lw_at lw_m4 103 rfl) rfl
theorem q904 : (Jvm.Cond.instanceMethod ({ cls := "WithoutThem$PlainSeeker", name := "against", desc := "(LWithoutThem$House;II)I" } : Jvm.MethodName)) ∈ lw_all := lw_g (lw_at lw_m4 104 rfl) rfl
theorem q905 : (Jvm.Cond.code ({ cls := "WithoutThem$PlainSeeker", name := "against", desc := "(LWithoutThem$House;II)I" } : Jvm.MethodName) prog_15_method_2_code (4 : Nat) (Option.some Jvm.ClassFile.FieldType.int)) ∈ lw_all := lw_g (lw_at lw_m4 105 rfl) rfl
theorem q1447 : (Jvm.Cond.castable "WithoutThem$PlainSeeker" "WithoutThem$Seeker") ∈ lw_tbl := lw_at lw_m6 167 rfl
