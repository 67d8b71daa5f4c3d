/-! DECODE ROWS BY BYTES: one lemma an opcode; a method's code is cut into short pieces once, and a row reads its own piece alone. -/
set_option maxRecDepth 100000
/-- the code has just these bytes from pc on -/
def DkAt (code : ByteArray) (pc : Nat) (bs : List UInt8) : Prop := ∀ (j : Nat) (b : UInt8), bs[j]? = some b → code.data.toList[pc + j]? = some b
/-- the piece W has the bytes bs from its place j on -/
def dkIn (W : List UInt8) (j : Nat) (bs : List UInt8) : Bool := decide ((W.drop j).take bs.length = bs)
theorem dk_seg {l W T : List UInt8} {o o2 : Nat} (h : l.drop o = W ++ T) (n : Nat) (hn : W.length = n) (ho : o + n = o2) : l.drop o2 = T := by
  subst ho
  rw [← List.drop_drop, h, List.drop_left' hn]
theorem dk_at {code : ByteArray} {W T bs : List UInt8} {o pc : Nat} (h : code.data.toList.drop o = W ++ T) (j : Nat) (hp : o + j = pc) (hw : dkIn W j bs = true) : DkAt code pc bs := by
  subst hp
  intro i b e
  have h1 := of_decide_eq_true hw
  have h2 : i < bs.length := (List.getElem?_eq_some_iff.mp e).1
  have h3 : W[j + i]? = some b := by
    rw [← h1, List.getElem?_take, if_pos h2, List.getElem?_drop] at e
    exact e
  have h4 : j + i < W.length := (List.getElem?_eq_some_iff.mp h3).1
  have h5 : (code.data.toList.drop o)[j + i]? = some b := by
    rw [h, List.getElem?_append_left h4]
    exact h3
  rw [List.getElem?_drop, ← Nat.add_assoc] at h5
  exact h5
theorem dk_u1 {A : ByteArray} {p : Nat} {b : UInt8} (h : A.data.toList[p]? = some b) : (Reader.u1 : Reader DecodeError Nat) A p = .ok (b.toNat, p + 1) := by
  obtain ⟨h1, h2⟩ := List.getElem?_eq_some_iff.mp h
  have h3 : p < A.size := by simpa using h1
  have h4 : A[p]'h3 = b := h2
  have e : (Reader.u1 : Reader DecodeError Nat) A p = (if h : p < A.size then .ok (A[p].toNat, p + 1) else .error (HasTruncated.truncated p)) := by
    show (do if h : p < A.size then do set (p + 1); Pure.pure A[p].toNat else MonadExcept.throw (HasTruncated.truncated p) : Reader DecodeError Nat) A p = _
    by_cases hi : p < A.size
    · rw [dif_pos hi, dif_pos hi]; rfl
    · rw [dif_neg hi, dif_neg hi]; rfl
  rw [e, dif_pos h3, h4]
theorem dk_bind {α β : Type} {r : Reader DecodeError α} {f : α → Reader DecodeError β} {A : ByteArray} {p s : Nat} {a : α} (h : r A p = .ok (a, s)) : (r >>= f) A p = f a A s := by
  show (do let (a, s) ← r A p; f a A s : Except DecodeError (β × Nat)) = _
  rw [h]
  rfl
theorem dk_map {α β : Type} {r : Reader DecodeError α} {g : α → β} {A : ByteArray} {p s : Nat} {a : α} (h : r A p = .ok (a, s)) : (g <$> r) A p = .ok (g a, s) := by
  show (do let (a, s) ← r A p; .ok (g a, s) : Except DecodeError (β × Nat)) = _
  rw [h]
  rfl
theorem dk_u2 {A : ByteArray} {p : Nat} {a b : UInt8} (h : A.data.toList[p]? = some a) (h2 : A.data.toList[p + 1]? = some b) : (Reader.u2 : Reader DecodeError Nat) A p = .ok (a.toNat * 256 + b.toNat, p + 2) := by
  show (Reader.u1 >>= fun hi => Reader.u1 >>= fun lo => Pure.pure (hi * 256 + lo) : Reader DecodeError Nat) A p = _
  rw [dk_bind (dk_u1 h), dk_bind (dk_u1 h2)]
  rfl
theorem dk_of {code : ByteArray} {pc n : Nat} {i : Instr} (h : Decoder.instr pc code pc = .ok (i, pc + n)) : decode code pc = .ok (i, n) := by
  have e : decode code pc = (match Decoder.instr pc code pc with | .error x => .error x | .ok (j, s) => .ok (j, s - pc)) := by
    show (do let (j, s) ← Decoder.instr pc code pc; Pure.pure (j, s - pc) : Except DecodeError (Instr × Nat)) = _
    cases Decoder.instr pc code pc <;> rfl
  rw [e, h]
  show Except.ok (i, pc + n - pc) = _
  rw [Nat.add_sub_cancel_left]
theorem dk_1 {code : ByteArray} {pc : Nat} (h : DkAt code pc [1]) : decode code pc = .ok (.aconst_null, 1) := dk_of ((dk_bind (dk_u1 (h 0 _ rfl))).trans rfl)
theorem dk_2 {code : ByteArray} {pc : Nat} (h : DkAt code pc [2]) : decode code pc = .ok (.iconst (-1), 1) := dk_of ((dk_bind (dk_u1 (h 0 _ rfl))).trans rfl)
theorem dk_3 {code : ByteArray} {pc : Nat} (h : DkAt code pc [3]) : decode code pc = .ok (.iconst 0, 1) := dk_of ((dk_bind (dk_u1 (h 0 _ rfl))).trans rfl)
theorem dk_4 {code : ByteArray} {pc : Nat} (h : DkAt code pc [4]) : decode code pc = .ok (.iconst 1, 1) := dk_of ((dk_bind (dk_u1 (h 0 _ rfl))).trans rfl)
theorem dk_5 {code : ByteArray} {pc : Nat} (h : DkAt code pc [5]) : decode code pc = .ok (.iconst 2, 1) := dk_of ((dk_bind (dk_u1 (h 0 _ rfl))).trans rfl)
theorem dk_6 {code : ByteArray} {pc : Nat} (h : DkAt code pc [6]) : decode code pc = .ok (.iconst 3, 1) := dk_of ((dk_bind (dk_u1 (h 0 _ rfl))).trans rfl)
theorem dk_7 {code : ByteArray} {pc : Nat} (h : DkAt code pc [7]) : decode code pc = .ok (.iconst 4, 1) := dk_of ((dk_bind (dk_u1 (h 0 _ rfl))).trans rfl)
theorem dk_8 {code : ByteArray} {pc : Nat} (h : DkAt code pc [8]) : decode code pc = .ok (.iconst 5, 1) := dk_of ((dk_bind (dk_u1 (h 0 _ rfl))).trans rfl)
theorem dk_9 {code : ByteArray} {pc : Nat} (h : DkAt code pc [9]) : decode code pc = .ok (.lconst 0, 1) := dk_of ((dk_bind (dk_u1 (h 0 _ rfl))).trans rfl)
theorem dk_10 {code : ByteArray} {pc : Nat} (h : DkAt code pc [10]) : decode code pc = .ok (.lconst 1, 1) := dk_of ((dk_bind (dk_u1 (h 0 _ rfl))).trans rfl)
theorem dk_16 {code : ByteArray} {pc : Nat} (a : UInt8) (h : DkAt code pc [16, a]) : decode code pc = .ok (.bipush (Reader.signed 8 a.toNat), 2) := dk_of ((dk_bind (dk_u1 (h 0 _ rfl))).trans ((dk_bind (dk_map (dk_u1 (h 1 _ rfl)))).trans rfl))
theorem dk_17 {code : ByteArray} {pc : Nat} (a b : UInt8) (h : DkAt code pc [17, a, b]) : decode code pc = .ok (.sipush (Reader.signed 16 (a.toNat * 256 + b.toNat)), 3) := dk_of ((dk_bind (dk_u1 (h 0 _ rfl))).trans ((dk_bind (dk_map (dk_u2 (h 1 _ rfl) (h 2 _ rfl)))).trans rfl))
theorem dk_18 {code : ByteArray} {pc : Nat} (a : UInt8) (h : DkAt code pc [18, a]) : decode code pc = .ok (.ldc a.toNat, 2) := dk_of ((dk_bind (dk_u1 (h 0 _ rfl))).trans ((dk_bind (dk_u1 (h 1 _ rfl))).trans rfl))
theorem dk_19 {code : ByteArray} {pc : Nat} (a b : UInt8) (h : DkAt code pc [19, a, b]) : decode code pc = .ok (.ldc_w (a.toNat * 256 + b.toNat), 3) := dk_of ((dk_bind (dk_u1 (h 0 _ rfl))).trans ((dk_bind (dk_u2 (h 1 _ rfl) (h 2 _ rfl))).trans rfl))
theorem dk_20 {code : ByteArray} {pc : Nat} (a b : UInt8) (h : DkAt code pc [20, a, b]) : decode code pc = .ok (.ldc2_w (a.toNat * 256 + b.toNat), 3) := dk_of ((dk_bind (dk_u1 (h 0 _ rfl))).trans ((dk_bind (dk_u2 (h 1 _ rfl) (h 2 _ rfl))).trans rfl))
theorem dk_21 {code : ByteArray} {pc : Nat} (a : UInt8) (h : DkAt code pc [21, a]) : decode code pc = .ok (.iload a.toNat, 2) := dk_of ((dk_bind (dk_u1 (h 0 _ rfl))).trans ((dk_bind (dk_u1 (h 1 _ rfl))).trans rfl))
theorem dk_22 {code : ByteArray} {pc : Nat} (a : UInt8) (h : DkAt code pc [22, a]) : decode code pc = .ok (.lload a.toNat, 2) := dk_of ((dk_bind (dk_u1 (h 0 _ rfl))).trans ((dk_bind (dk_u1 (h 1 _ rfl))).trans rfl))
theorem dk_25 {code : ByteArray} {pc : Nat} (a : UInt8) (h : DkAt code pc [25, a]) : decode code pc = .ok (.aload a.toNat, 2) := dk_of ((dk_bind (dk_u1 (h 0 _ rfl))).trans ((dk_bind (dk_u1 (h 1 _ rfl))).trans rfl))
theorem dk_26 {code : ByteArray} {pc : Nat} (h : DkAt code pc [26]) : decode code pc = .ok (.iload_n 0, 1) := dk_of ((dk_bind (dk_u1 (h 0 _ rfl))).trans rfl)
theorem dk_27 {code : ByteArray} {pc : Nat} (h : DkAt code pc [27]) : decode code pc = .ok (.iload_n 1, 1) := dk_of ((dk_bind (dk_u1 (h 0 _ rfl))).trans rfl)
theorem dk_28 {code : ByteArray} {pc : Nat} (h : DkAt code pc [28]) : decode code pc = .ok (.iload_n 2, 1) := dk_of ((dk_bind (dk_u1 (h 0 _ rfl))).trans rfl)
theorem dk_29 {code : ByteArray} {pc : Nat} (h : DkAt code pc [29]) : decode code pc = .ok (.iload_n 3, 1) := dk_of ((dk_bind (dk_u1 (h 0 _ rfl))).trans rfl)
theorem dk_30 {code : ByteArray} {pc : Nat} (h : DkAt code pc [30]) : decode code pc = .ok (.lload_n 0, 1) := dk_of ((dk_bind (dk_u1 (h 0 _ rfl))).trans rfl)
theorem dk_32 {code : ByteArray} {pc : Nat} (h : DkAt code pc [32]) : decode code pc = .ok (.lload_n 2, 1) := dk_of ((dk_bind (dk_u1 (h 0 _ rfl))).trans rfl)
theorem dk_42 {code : ByteArray} {pc : Nat} (h : DkAt code pc [42]) : decode code pc = .ok (.aload_n 0, 1) := dk_of ((dk_bind (dk_u1 (h 0 _ rfl))).trans rfl)
theorem dk_43 {code : ByteArray} {pc : Nat} (h : DkAt code pc [43]) : decode code pc = .ok (.aload_n 1, 1) := dk_of ((dk_bind (dk_u1 (h 0 _ rfl))).trans rfl)
theorem dk_44 {code : ByteArray} {pc : Nat} (h : DkAt code pc [44]) : decode code pc = .ok (.aload_n 2, 1) := dk_of ((dk_bind (dk_u1 (h 0 _ rfl))).trans rfl)
theorem dk_45 {code : ByteArray} {pc : Nat} (h : DkAt code pc [45]) : decode code pc = .ok (.aload_n 3, 1) := dk_of ((dk_bind (dk_u1 (h 0 _ rfl))).trans rfl)
theorem dk_46 {code : ByteArray} {pc : Nat} (h : DkAt code pc [46]) : decode code pc = .ok (.iaload, 1) := dk_of ((dk_bind (dk_u1 (h 0 _ rfl))).trans rfl)
theorem dk_47 {code : ByteArray} {pc : Nat} (h : DkAt code pc [47]) : decode code pc = .ok (.laload, 1) := dk_of ((dk_bind (dk_u1 (h 0 _ rfl))).trans rfl)
theorem dk_50 {code : ByteArray} {pc : Nat} (h : DkAt code pc [50]) : decode code pc = .ok (.aaload, 1) := dk_of ((dk_bind (dk_u1 (h 0 _ rfl))).trans rfl)
theorem dk_51 {code : ByteArray} {pc : Nat} (h : DkAt code pc [51]) : decode code pc = .ok (.baload, 1) := dk_of ((dk_bind (dk_u1 (h 0 _ rfl))).trans rfl)
theorem dk_54 {code : ByteArray} {pc : Nat} (a : UInt8) (h : DkAt code pc [54, a]) : decode code pc = .ok (.istore a.toNat, 2) := dk_of ((dk_bind (dk_u1 (h 0 _ rfl))).trans ((dk_bind (dk_u1 (h 1 _ rfl))).trans rfl))
theorem dk_55 {code : ByteArray} {pc : Nat} (a : UInt8) (h : DkAt code pc [55, a]) : decode code pc = .ok (.lstore a.toNat, 2) := dk_of ((dk_bind (dk_u1 (h 0 _ rfl))).trans ((dk_bind (dk_u1 (h 1 _ rfl))).trans rfl))
theorem dk_58 {code : ByteArray} {pc : Nat} (a : UInt8) (h : DkAt code pc [58, a]) : decode code pc = .ok (.astore a.toNat, 2) := dk_of ((dk_bind (dk_u1 (h 0 _ rfl))).trans ((dk_bind (dk_u1 (h 1 _ rfl))).trans rfl))
theorem dk_59 {code : ByteArray} {pc : Nat} (h : DkAt code pc [59]) : decode code pc = .ok (.istore_n 0, 1) := dk_of ((dk_bind (dk_u1 (h 0 _ rfl))).trans rfl)
theorem dk_60 {code : ByteArray} {pc : Nat} (h : DkAt code pc [60]) : decode code pc = .ok (.istore_n 1, 1) := dk_of ((dk_bind (dk_u1 (h 0 _ rfl))).trans rfl)
theorem dk_61 {code : ByteArray} {pc : Nat} (h : DkAt code pc [61]) : decode code pc = .ok (.istore_n 2, 1) := dk_of ((dk_bind (dk_u1 (h 0 _ rfl))).trans rfl)
theorem dk_62 {code : ByteArray} {pc : Nat} (h : DkAt code pc [62]) : decode code pc = .ok (.istore_n 3, 1) := dk_of ((dk_bind (dk_u1 (h 0 _ rfl))).trans rfl)
theorem dk_76 {code : ByteArray} {pc : Nat} (h : DkAt code pc [76]) : decode code pc = .ok (.astore_n 1, 1) := dk_of ((dk_bind (dk_u1 (h 0 _ rfl))).trans rfl)
theorem dk_77 {code : ByteArray} {pc : Nat} (h : DkAt code pc [77]) : decode code pc = .ok (.astore_n 2, 1) := dk_of ((dk_bind (dk_u1 (h 0 _ rfl))).trans rfl)
theorem dk_78 {code : ByteArray} {pc : Nat} (h : DkAt code pc [78]) : decode code pc = .ok (.astore_n 3, 1) := dk_of ((dk_bind (dk_u1 (h 0 _ rfl))).trans rfl)
theorem dk_79 {code : ByteArray} {pc : Nat} (h : DkAt code pc [79]) : decode code pc = .ok (.iastore, 1) := dk_of ((dk_bind (dk_u1 (h 0 _ rfl))).trans rfl)
theorem dk_80 {code : ByteArray} {pc : Nat} (h : DkAt code pc [80]) : decode code pc = .ok (.lastore, 1) := dk_of ((dk_bind (dk_u1 (h 0 _ rfl))).trans rfl)
theorem dk_83 {code : ByteArray} {pc : Nat} (h : DkAt code pc [83]) : decode code pc = .ok (.aastore, 1) := dk_of ((dk_bind (dk_u1 (h 0 _ rfl))).trans rfl)
theorem dk_84 {code : ByteArray} {pc : Nat} (h : DkAt code pc [84]) : decode code pc = .ok (.bastore, 1) := dk_of ((dk_bind (dk_u1 (h 0 _ rfl))).trans rfl)
theorem dk_87 {code : ByteArray} {pc : Nat} (h : DkAt code pc [87]) : decode code pc = .ok (.pop, 1) := dk_of ((dk_bind (dk_u1 (h 0 _ rfl))).trans rfl)
theorem dk_89 {code : ByteArray} {pc : Nat} (h : DkAt code pc [89]) : decode code pc = .ok (.dup, 1) := dk_of ((dk_bind (dk_u1 (h 0 _ rfl))).trans rfl)
theorem dk_90 {code : ByteArray} {pc : Nat} (h : DkAt code pc [90]) : decode code pc = .ok (.dup_x1, 1) := dk_of ((dk_bind (dk_u1 (h 0 _ rfl))).trans rfl)
theorem dk_92 {code : ByteArray} {pc : Nat} (h : DkAt code pc [92]) : decode code pc = .ok (.dup2, 1) := dk_of ((dk_bind (dk_u1 (h 0 _ rfl))).trans rfl)
theorem dk_96 {code : ByteArray} {pc : Nat} (h : DkAt code pc [96]) : decode code pc = .ok (.iadd, 1) := dk_of ((dk_bind (dk_u1 (h 0 _ rfl))).trans rfl)
theorem dk_100 {code : ByteArray} {pc : Nat} (h : DkAt code pc [100]) : decode code pc = .ok (.isub, 1) := dk_of ((dk_bind (dk_u1 (h 0 _ rfl))).trans rfl)
theorem dk_101 {code : ByteArray} {pc : Nat} (h : DkAt code pc [101]) : decode code pc = .ok (.lsub, 1) := dk_of ((dk_bind (dk_u1 (h 0 _ rfl))).trans rfl)
theorem dk_104 {code : ByteArray} {pc : Nat} (h : DkAt code pc [104]) : decode code pc = .ok (.imul, 1) := dk_of ((dk_bind (dk_u1 (h 0 _ rfl))).trans rfl)
theorem dk_105 {code : ByteArray} {pc : Nat} (h : DkAt code pc [105]) : decode code pc = .ok (.lmul, 1) := dk_of ((dk_bind (dk_u1 (h 0 _ rfl))).trans rfl)
theorem dk_108 {code : ByteArray} {pc : Nat} (h : DkAt code pc [108]) : decode code pc = .ok (.idiv, 1) := dk_of ((dk_bind (dk_u1 (h 0 _ rfl))).trans rfl)
theorem dk_109 {code : ByteArray} {pc : Nat} (h : DkAt code pc [109]) : decode code pc = .ok (.ldiv, 1) := dk_of ((dk_bind (dk_u1 (h 0 _ rfl))).trans rfl)
theorem dk_112 {code : ByteArray} {pc : Nat} (h : DkAt code pc [112]) : decode code pc = .ok (.irem, 1) := dk_of ((dk_bind (dk_u1 (h 0 _ rfl))).trans rfl)
theorem dk_113 {code : ByteArray} {pc : Nat} (h : DkAt code pc [113]) : decode code pc = .ok (.lrem, 1) := dk_of ((dk_bind (dk_u1 (h 0 _ rfl))).trans rfl)
theorem dk_116 {code : ByteArray} {pc : Nat} (h : DkAt code pc [116]) : decode code pc = .ok (.ineg, 1) := dk_of ((dk_bind (dk_u1 (h 0 _ rfl))).trans rfl)
theorem dk_120 {code : ByteArray} {pc : Nat} (h : DkAt code pc [120]) : decode code pc = .ok (.ishl, 1) := dk_of ((dk_bind (dk_u1 (h 0 _ rfl))).trans rfl)
theorem dk_121 {code : ByteArray} {pc : Nat} (h : DkAt code pc [121]) : decode code pc = .ok (.lshl, 1) := dk_of ((dk_bind (dk_u1 (h 0 _ rfl))).trans rfl)
theorem dk_122 {code : ByteArray} {pc : Nat} (h : DkAt code pc [122]) : decode code pc = .ok (.ishr, 1) := dk_of ((dk_bind (dk_u1 (h 0 _ rfl))).trans rfl)
theorem dk_124 {code : ByteArray} {pc : Nat} (h : DkAt code pc [124]) : decode code pc = .ok (.iushr, 1) := dk_of ((dk_bind (dk_u1 (h 0 _ rfl))).trans rfl)
theorem dk_126 {code : ByteArray} {pc : Nat} (h : DkAt code pc [126]) : decode code pc = .ok (.iand, 1) := dk_of ((dk_bind (dk_u1 (h 0 _ rfl))).trans rfl)
theorem dk_128 {code : ByteArray} {pc : Nat} (h : DkAt code pc [128]) : decode code pc = .ok (.ior, 1) := dk_of ((dk_bind (dk_u1 (h 0 _ rfl))).trans rfl)
theorem dk_129 {code : ByteArray} {pc : Nat} (h : DkAt code pc [129]) : decode code pc = .ok (.lor, 1) := dk_of ((dk_bind (dk_u1 (h 0 _ rfl))).trans rfl)
theorem dk_130 {code : ByteArray} {pc : Nat} (h : DkAt code pc [130]) : decode code pc = .ok (.ixor, 1) := dk_of ((dk_bind (dk_u1 (h 0 _ rfl))).trans rfl)
theorem dk_132 {code : ByteArray} {pc : Nat} (a b : UInt8) (h : DkAt code pc [132, a, b]) : decode code pc = .ok (.iinc a.toNat (Reader.signed 8 b.toNat), 3) := dk_of ((dk_bind (dk_u1 (h 0 _ rfl))).trans ((dk_bind (dk_u1 (h 1 _ rfl))).trans ((dk_bind (dk_map (dk_u1 (h 2 _ rfl)))).trans rfl)))
theorem dk_133 {code : ByteArray} {pc : Nat} (h : DkAt code pc [133]) : decode code pc = .ok (.i2l, 1) := dk_of ((dk_bind (dk_u1 (h 0 _ rfl))).trans rfl)
theorem dk_145 {code : ByteArray} {pc : Nat} (h : DkAt code pc [145]) : decode code pc = .ok (.i2b, 1) := dk_of ((dk_bind (dk_u1 (h 0 _ rfl))).trans rfl)
theorem dk_146 {code : ByteArray} {pc : Nat} (h : DkAt code pc [146]) : decode code pc = .ok (.i2c, 1) := dk_of ((dk_bind (dk_u1 (h 0 _ rfl))).trans rfl)
theorem dk_148 {code : ByteArray} {pc : Nat} (h : DkAt code pc [148]) : decode code pc = .ok (.lcmp, 1) := dk_of ((dk_bind (dk_u1 (h 0 _ rfl))).trans rfl)
theorem dk_153 {code : ByteArray} {pc : Nat} (a b : UInt8) (h : DkAt code pc [153, a, b]) : decode code pc = .ok (.ifCond .eq (Reader.signed 16 (a.toNat * 256 + b.toNat)), 3) := dk_of ((dk_bind (dk_u1 (h 0 _ rfl))).trans ((dk_bind (dk_map (dk_u2 (h 1 _ rfl) (h 2 _ rfl)))).trans rfl))
theorem dk_154 {code : ByteArray} {pc : Nat} (a b : UInt8) (h : DkAt code pc [154, a, b]) : decode code pc = .ok (.ifCond .ne (Reader.signed 16 (a.toNat * 256 + b.toNat)), 3) := dk_of ((dk_bind (dk_u1 (h 0 _ rfl))).trans ((dk_bind (dk_map (dk_u2 (h 1 _ rfl) (h 2 _ rfl)))).trans rfl))
theorem dk_155 {code : ByteArray} {pc : Nat} (a b : UInt8) (h : DkAt code pc [155, a, b]) : decode code pc = .ok (.ifCond .lt (Reader.signed 16 (a.toNat * 256 + b.toNat)), 3) := dk_of ((dk_bind (dk_u1 (h 0 _ rfl))).trans ((dk_bind (dk_map (dk_u2 (h 1 _ rfl) (h 2 _ rfl)))).trans rfl))
theorem dk_156 {code : ByteArray} {pc : Nat} (a b : UInt8) (h : DkAt code pc [156, a, b]) : decode code pc = .ok (.ifCond .ge (Reader.signed 16 (a.toNat * 256 + b.toNat)), 3) := dk_of ((dk_bind (dk_u1 (h 0 _ rfl))).trans ((dk_bind (dk_map (dk_u2 (h 1 _ rfl) (h 2 _ rfl)))).trans rfl))
theorem dk_157 {code : ByteArray} {pc : Nat} (a b : UInt8) (h : DkAt code pc [157, a, b]) : decode code pc = .ok (.ifCond .gt (Reader.signed 16 (a.toNat * 256 + b.toNat)), 3) := dk_of ((dk_bind (dk_u1 (h 0 _ rfl))).trans ((dk_bind (dk_map (dk_u2 (h 1 _ rfl) (h 2 _ rfl)))).trans rfl))
theorem dk_158 {code : ByteArray} {pc : Nat} (a b : UInt8) (h : DkAt code pc [158, a, b]) : decode code pc = .ok (.ifCond .le (Reader.signed 16 (a.toNat * 256 + b.toNat)), 3) := dk_of ((dk_bind (dk_u1 (h 0 _ rfl))).trans ((dk_bind (dk_map (dk_u2 (h 1 _ rfl) (h 2 _ rfl)))).trans rfl))
theorem dk_159 {code : ByteArray} {pc : Nat} (a b : UInt8) (h : DkAt code pc [159, a, b]) : decode code pc = .ok (.if_icmp .eq (Reader.signed 16 (a.toNat * 256 + b.toNat)), 3) := dk_of ((dk_bind (dk_u1 (h 0 _ rfl))).trans ((dk_bind (dk_map (dk_u2 (h 1 _ rfl) (h 2 _ rfl)))).trans rfl))
theorem dk_160 {code : ByteArray} {pc : Nat} (a b : UInt8) (h : DkAt code pc [160, a, b]) : decode code pc = .ok (.if_icmp .ne (Reader.signed 16 (a.toNat * 256 + b.toNat)), 3) := dk_of ((dk_bind (dk_u1 (h 0 _ rfl))).trans ((dk_bind (dk_map (dk_u2 (h 1 _ rfl) (h 2 _ rfl)))).trans rfl))
theorem dk_161 {code : ByteArray} {pc : Nat} (a b : UInt8) (h : DkAt code pc [161, a, b]) : decode code pc = .ok (.if_icmp .lt (Reader.signed 16 (a.toNat * 256 + b.toNat)), 3) := dk_of ((dk_bind (dk_u1 (h 0 _ rfl))).trans ((dk_bind (dk_map (dk_u2 (h 1 _ rfl) (h 2 _ rfl)))).trans rfl))
theorem dk_162 {code : ByteArray} {pc : Nat} (a b : UInt8) (h : DkAt code pc [162, a, b]) : decode code pc = .ok (.if_icmp .ge (Reader.signed 16 (a.toNat * 256 + b.toNat)), 3) := dk_of ((dk_bind (dk_u1 (h 0 _ rfl))).trans ((dk_bind (dk_map (dk_u2 (h 1 _ rfl) (h 2 _ rfl)))).trans rfl))
theorem dk_163 {code : ByteArray} {pc : Nat} (a b : UInt8) (h : DkAt code pc [163, a, b]) : decode code pc = .ok (.if_icmp .gt (Reader.signed 16 (a.toNat * 256 + b.toNat)), 3) := dk_of ((dk_bind (dk_u1 (h 0 _ rfl))).trans ((dk_bind (dk_map (dk_u2 (h 1 _ rfl) (h 2 _ rfl)))).trans rfl))
theorem dk_164 {code : ByteArray} {pc : Nat} (a b : UInt8) (h : DkAt code pc [164, a, b]) : decode code pc = .ok (.if_icmp .le (Reader.signed 16 (a.toNat * 256 + b.toNat)), 3) := dk_of ((dk_bind (dk_u1 (h 0 _ rfl))).trans ((dk_bind (dk_map (dk_u2 (h 1 _ rfl) (h 2 _ rfl)))).trans rfl))
theorem dk_165 {code : ByteArray} {pc : Nat} (a b : UInt8) (h : DkAt code pc [165, a, b]) : decode code pc = .ok (.if_acmp .eq (Reader.signed 16 (a.toNat * 256 + b.toNat)), 3) := dk_of ((dk_bind (dk_u1 (h 0 _ rfl))).trans ((dk_bind (dk_map (dk_u2 (h 1 _ rfl) (h 2 _ rfl)))).trans rfl))
theorem dk_166 {code : ByteArray} {pc : Nat} (a b : UInt8) (h : DkAt code pc [166, a, b]) : decode code pc = .ok (.if_acmp .ne (Reader.signed 16 (a.toNat * 256 + b.toNat)), 3) := dk_of ((dk_bind (dk_u1 (h 0 _ rfl))).trans ((dk_bind (dk_map (dk_u2 (h 1 _ rfl) (h 2 _ rfl)))).trans rfl))
theorem dk_167 {code : ByteArray} {pc : Nat} (a b : UInt8) (h : DkAt code pc [167, a, b]) : decode code pc = .ok (.goto (Reader.signed 16 (a.toNat * 256 + b.toNat)), 3) := dk_of ((dk_bind (dk_u1 (h 0 _ rfl))).trans ((dk_bind (dk_map (dk_u2 (h 1 _ rfl) (h 2 _ rfl)))).trans rfl))
theorem dk_172 {code : ByteArray} {pc : Nat} (h : DkAt code pc [172]) : decode code pc = .ok (.ireturn, 1) := dk_of ((dk_bind (dk_u1 (h 0 _ rfl))).trans rfl)
theorem dk_173 {code : ByteArray} {pc : Nat} (h : DkAt code pc [173]) : decode code pc = .ok (.lreturn, 1) := dk_of ((dk_bind (dk_u1 (h 0 _ rfl))).trans rfl)
theorem dk_176 {code : ByteArray} {pc : Nat} (h : DkAt code pc [176]) : decode code pc = .ok (.areturn, 1) := dk_of ((dk_bind (dk_u1 (h 0 _ rfl))).trans rfl)
theorem dk_177 {code : ByteArray} {pc : Nat} (h : DkAt code pc [177]) : decode code pc = .ok (.return_, 1) := dk_of ((dk_bind (dk_u1 (h 0 _ rfl))).trans rfl)
theorem dk_178 {code : ByteArray} {pc : Nat} (a b : UInt8) (h : DkAt code pc [178, a, b]) : decode code pc = .ok (.getstatic (a.toNat * 256 + b.toNat), 3) := dk_of ((dk_bind (dk_u1 (h 0 _ rfl))).trans ((dk_bind (dk_u2 (h 1 _ rfl) (h 2 _ rfl))).trans rfl))
theorem dk_180 {code : ByteArray} {pc : Nat} (a b : UInt8) (h : DkAt code pc [180, a, b]) : decode code pc = .ok (.getfield (a.toNat * 256 + b.toNat), 3) := dk_of ((dk_bind (dk_u1 (h 0 _ rfl))).trans ((dk_bind (dk_u2 (h 1 _ rfl) (h 2 _ rfl))).trans rfl))
theorem dk_181 {code : ByteArray} {pc : Nat} (a b : UInt8) (h : DkAt code pc [181, a, b]) : decode code pc = .ok (.putfield (a.toNat * 256 + b.toNat), 3) := dk_of ((dk_bind (dk_u1 (h 0 _ rfl))).trans ((dk_bind (dk_u2 (h 1 _ rfl) (h 2 _ rfl))).trans rfl))
theorem dk_182 {code : ByteArray} {pc : Nat} (a b : UInt8) (h : DkAt code pc [182, a, b]) : decode code pc = .ok (.invokevirtual (a.toNat * 256 + b.toNat), 3) := dk_of ((dk_bind (dk_u1 (h 0 _ rfl))).trans ((dk_bind (dk_u2 (h 1 _ rfl) (h 2 _ rfl))).trans rfl))
theorem dk_183 {code : ByteArray} {pc : Nat} (a b : UInt8) (h : DkAt code pc [183, a, b]) : decode code pc = .ok (.invokespecial (a.toNat * 256 + b.toNat), 3) := dk_of ((dk_bind (dk_u1 (h 0 _ rfl))).trans ((dk_bind (dk_u2 (h 1 _ rfl) (h 2 _ rfl))).trans rfl))
theorem dk_184 {code : ByteArray} {pc : Nat} (a b : UInt8) (h : DkAt code pc [184, a, b]) : decode code pc = .ok (.invokestatic (a.toNat * 256 + b.toNat), 3) := dk_of ((dk_bind (dk_u1 (h 0 _ rfl))).trans ((dk_bind (dk_u2 (h 1 _ rfl) (h 2 _ rfl))).trans rfl))
theorem dk_187 {code : ByteArray} {pc : Nat} (a b : UInt8) (h : DkAt code pc [187, a, b]) : decode code pc = .ok (.new (a.toNat * 256 + b.toNat), 3) := dk_of ((dk_bind (dk_u1 (h 0 _ rfl))).trans ((dk_bind (dk_u2 (h 1 _ rfl) (h 2 _ rfl))).trans rfl))
theorem dk_188_4 {code : ByteArray} {pc : Nat} (h : DkAt code pc [188, 4]) : decode code pc = .ok (.newarray .boolean, 2) := dk_of ((dk_bind (dk_u1 (h 0 _ rfl))).trans ((dk_bind (dk_u1 (h 1 _ rfl))).trans rfl))
theorem dk_188_8 {code : ByteArray} {pc : Nat} (h : DkAt code pc [188, 8]) : decode code pc = .ok (.newarray .byte, 2) := dk_of ((dk_bind (dk_u1 (h 0 _ rfl))).trans ((dk_bind (dk_u1 (h 1 _ rfl))).trans rfl))
theorem dk_188_10 {code : ByteArray} {pc : Nat} (h : DkAt code pc [188, 10]) : decode code pc = .ok (.newarray .int, 2) := dk_of ((dk_bind (dk_u1 (h 0 _ rfl))).trans ((dk_bind (dk_u1 (h 1 _ rfl))).trans rfl))
theorem dk_188_11 {code : ByteArray} {pc : Nat} (h : DkAt code pc [188, 11]) : decode code pc = .ok (.newarray .long, 2) := dk_of ((dk_bind (dk_u1 (h 0 _ rfl))).trans ((dk_bind (dk_u1 (h 1 _ rfl))).trans rfl))
theorem dk_189 {code : ByteArray} {pc : Nat} (a b : UInt8) (h : DkAt code pc [189, a, b]) : decode code pc = .ok (.anewarray (a.toNat * 256 + b.toNat), 3) := dk_of ((dk_bind (dk_u1 (h 0 _ rfl))).trans ((dk_bind (dk_u2 (h 1 _ rfl) (h 2 _ rfl))).trans rfl))
theorem dk_190 {code : ByteArray} {pc : Nat} (h : DkAt code pc [190]) : decode code pc = .ok (.arraylength, 1) := dk_of ((dk_bind (dk_u1 (h 0 _ rfl))).trans rfl)
theorem dk_191 {code : ByteArray} {pc : Nat} (h : DkAt code pc [191]) : decode code pc = .ok (.athrow, 1) := dk_of ((dk_bind (dk_u1 (h 0 _ rfl))).trans rfl)
theorem dk_192 {code : ByteArray} {pc : Nat} (a b : UInt8) (h : DkAt code pc [192, a, b]) : decode code pc = .ok (.checkcast (a.toNat * 256 + b.toNat), 3) := dk_of ((dk_bind (dk_u1 (h 0 _ rfl))).trans ((dk_bind (dk_u2 (h 1 _ rfl) (h 2 _ rfl))).trans rfl))
theorem dk_198 {code : ByteArray} {pc : Nat} (a b : UInt8) (h : DkAt code pc [198, a, b]) : decode code pc = .ok (.ifnull (Reader.signed 16 (a.toNat * 256 + b.toNat)), 3) := dk_of ((dk_bind (dk_u1 (h 0 _ rfl))).trans ((dk_bind (dk_map (dk_u2 (h 1 _ rfl) (h 2 _ rfl)))).trans rfl))
theorem dk_199 {code : ByteArray} {pc : Nat} (a b : UInt8) (h : DkAt code pc [199, a, b]) : decode code pc = .ok (.ifnonnull (Reader.signed 16 (a.toNat * 256 + b.toNat)), 3) := dk_of ((dk_bind (dk_u1 (h 0 _ rfl))).trans ((dk_bind (dk_map (dk_u2 (h 1 _ rfl) (h 2 _ rfl)))).trans rfl))

/-! ShoeHouseLaw -/
set_option maxRecDepth 100000
def RX0 : String := "ShoeHouseLaw"
abbrev cX0_house : ByteArray := method_3_code
def yX0_house : MethodName := ⟨RX0, "house", "(LShoeHouse;I[J)I"⟩
abbrev cX0_count : ByteArray := method_4_code
def yX0_count : MethodName := ⟨RX0, "count", "(LShoeHouse;I[J)I"⟩
abbrev cX0_room : ByteArray := method_5_code
def yX0_room : MethodName := ⟨RX0, "room", "(LShoeHouse;II[J)I"⟩
abbrev cX0_lodger : ByteArray := method_6_code
def yX0_lodger : MethodName := ⟨RX0, "lodger", "(LShoeHouse;II[J)I"⟩
abbrev cX0_may : ByteArray := method_7_code
def yX0_may : MethodName := ⟨RX0, "may", "(LShoeHouse;III[J)I"⟩
abbrev cX0_says : ByteArray := method_8_code
def yX0_says : MethodName := ⟨RX0, "says", "(LShoeHouse;II[J)I"⟩
abbrev cX0_lend : ByteArray := method_9_code
def yX0_lend : MethodName := ⟨RX0, "lend", "(LShoeHouse;III[J)I"⟩
abbrev cX0_does : ByteArray := method_10_code
def yX0_does : MethodName := ⟨RX0, "does", "(LShoeHouse;II[J)I"⟩
abbrev cX0_sign : ByteArray := method_11_code
def yX0_sign : MethodName := ⟨RX0, "sign", "(LShoeHouse;II[J)I"⟩
abbrev cX0_look : ByteArray := method_12_code
def yX0_look : MethodName := ⟨RX0, "look", "(LShoeHouse;III[J)I"⟩
abbrev cX0_theft : ByteArray := method_13_code
def yX0_theft : MethodName := ⟨RX0, "theft", "(LShoeHouse;II[J)I"⟩
abbrev cX0_see : ByteArray := method_14_code
def yX0_see : MethodName := ⟨RX0, "see", "(LShoeHouse;III[J)I"⟩
abbrev cX0_inCase : ByteArray := method_15_code
def yX0_inCase : MethodName := ⟨RX0, "inCase", "(LShoeHouse;II[J)I"⟩
abbrev cX0_sure : ByteArray := method_16_code
def yX0_sure : MethodName := ⟨RX0, "sure", "(LShoeHouse;I[J)I"⟩
abbrev cX0_where : ByteArray := method_17_code
def yX0_where : MethodName := ⟨RX0, "where", "(LShoeHouse;I[J)I"⟩
abbrev cX0_misled : ByteArray := method_18_code
def yX0_misled : MethodName := ⟨RX0, "misled", "(LShoeHouse;III[J)I"⟩
abbrev cX0_chance : ByteArray := method_19_code
def yX0_chance : MethodName := ⟨RX0, "chance", "(LShoeHouse;II[J)I"⟩
abbrev cX0_round : ByteArray := method_20_code
def yX0_round : MethodName := ⟨RX0, "round", "(LShoeHouse;III[J)I"⟩
abbrev cX0_path : ByteArray := method_21_code
def yX0_path : MethodName := ⟨RX0, "path", "(LShoeHouse;II[J)I"⟩
abbrev cX0_rests : ByteArray := method_22_code
def yX0_rests : MethodName := ⟨RX0, "rests", "(LShoeHouse;III[J)I"⟩
abbrev cX0_fewest : ByteArray := method_23_code
def yX0_fewest : MethodName := ⟨RX0, "fewest", "(LShoeHouse;II[J)I"⟩
abbrev cX0_lender : ByteArray := method_24_code
def yX0_lender : MethodName := ⟨RX0, "lender", "(LShoeHouse;I[J)I"⟩
abbrev cX0_kinds : ByteArray := method_25_code
def yX0_kinds : MethodName := ⟨RX0, "kinds", "(LShoeHouse;II[J)I"⟩
abbrev cX0_word : ByteArray := method_26_code
def yX0_word : MethodName := ⟨RX0, "word", "(LShoeHouse;II[J)I"⟩
abbrev cX0_mend : ByteArray := method_27_code
def yX0_mend : MethodName := ⟨RX0, "mend", "(LShoeHouse;III[J)I"⟩
abbrev cX0_fire : ByteArray := method_28_code
def yX0_fire : MethodName := ⟨RX0, "fire", "(LShoeHouse;IIIII[J)I"⟩
theorem q91 : (Jvm.Cond.initialized "ShoeHouseLaw") ∈ lw_all := lw_g (lw_at lw_m1 0 rfl) rfl
theorem q120 : (Jvm.Cond.classLink "ShoeHouseLaw" (8 : Nat) "ShoeHouse") ∈ lw_all := lw_g (lw_at lw_m1 29 rfl) rfl
theorem q122 : (Jvm.Cond.methodLink "ShoeHouseLaw" (95 : Nat) ({ cls := "ShoeHouse", name := "<init>", desc := "()V" } : Jvm.MethodName)) ∈ lw_all := lw_g (lw_at lw_m1 31 rfl) rfl
theorem q265 : (Jvm.Cond.methodLink "ShoeHouseLaw" (99 : Nat) ({ cls := "ShoeHouse", name := "feed", desc := "(IIIII)I" } : Jvm.MethodName)) ∈ lw_all := lw_g (lw_at lw_m1 174 rfl) rfl
theorem q269 : (Jvm.Cond.methodLink "ShoeHouseLaw" (114 : Nat) ({ cls := "ShoeHouse", name := "fault", desc := "()I" } : Jvm.MethodName)) ∈ lw_all := lw_g (lw_at lw_m1 178 rfl) rfl
theorem q273 : (Jvm.Cond.methodLink "ShoeHouseLaw" (138 : Nat) ({ cls := "ShoeHouse", name := "back", desc := "()I" } : Jvm.MethodName)) ∈ lw_all := lw_g (lw_at lw_m1 182 rfl) rfl
theorem q318 : (Jvm.Cond.methodLink "ShoeHouseLaw" (142 : Nat) ({ cls := "ShoeHouse", name := "draw", desc := "(I)V" } : Jvm.MethodName)) ∈ lw_all := lw_g (lw_at lw_m1 227 rfl) rfl
theorem q358 : (Jvm.Cond.methodLink "ShoeHouseLaw" (162 : Nat) ({ cls := "ShoeHouse", name := "forget", desc := "()I" } : Jvm.MethodName)) ∈ lw_all := lw_g (lw_at lw_m2 27 rfl) rfl
theorem q363 : (Jvm.Cond.methodLink "ShoeHouseLaw" (166 : Nat) ({ cls := "ShoeHouse", name := "cases", desc := "()I" } : Jvm.MethodName)) ∈ lw_all := lw_g (lw_at lw_m2 32 rfl) rfl
theorem q421 : (Jvm.Cond.methodLink "ShoeHouseLaw" (213 : Nat) ({ cls := "ShoeHouse", name := "image", desc := "()V" } : Jvm.MethodName)) ∈ lw_all := lw_g (lw_at lw_m2 90 rfl) rfl
theorem q482 : (Jvm.Cond.methodLink "ShoeHouseLaw" (217 : Nat) ({ cls := "ShoeHouse", name := "restore", desc := "()Z" } : Jvm.MethodName)) ∈ lw_all := lw_g (lw_at lw_m2 151 rfl) rfl
theorem q486 : (Jvm.Cond.methodLink "ShoeHouseLaw" (104 : Nat) ({ cls := "ShoeHouseLaw", name := "house", desc := "(LShoeHouse;I[J)I" } : Jvm.MethodName)) ∈ lw_all := lw_g (lw_at lw_m2 155 rfl) rfl
theorem q487 : (Jvm.Cond.static ({ cls := "ShoeHouseLaw", name := "house", desc := "(LShoeHouse;I[J)I" } : Jvm.MethodName)) ∈ lw_all := lw_g (lw_at lw_m2 156 rfl) rfl
theorem q488 : (Jvm.Cond.codeWith ({ cls := "ShoeHouseLaw", name := "house", desc := "(LShoeHouse;I[J)I" } : Jvm.MethodName) method_3_code (4 : Nat) (Option.some Jvm.ClassFile.FieldType.int) [((0 : Nat), (9 : Nat), (12 : Nat), (13 : Nat))]) ∈ lw_all := lw_g (lw_at lw_m2 157 rfl) rfl
theorem q489 : (Jvm.Cond.classLink "ShoeHouseLaw" (13 : Nat) "java/lang/IllegalArgumentException") ∈ lw_all := lw_g (lw_at lw_m2 158 rfl) rfl
theorem q490 : (Jvm.Cond.methodLink "ShoeHouseLaw" (7 : Nat) ({ cls := "ShoeHouse", name := "house", desc := "(I)I" } : Jvm.MethodName)) ∈ lw_all := lw_g (lw_at lw_m2 159 rfl) rfl
theorem q810 : (Jvm.Cond.methodLink "ShoeHouseLaw" (118 : Nat) ({ cls := "ShoeHouseLaw", name := "count", desc := "(LShoeHouse;I[J)I" } : Jvm.MethodName)) ∈ lw_all := lw_g (lw_at lw_m3 239 rfl) rfl
theorem q811 : (Jvm.Cond.static ({ cls := "ShoeHouseLaw", name := "count", desc := "(LShoeHouse;I[J)I" } : Jvm.MethodName)) ∈ lw_all := lw_g (lw_at lw_m4 0 rfl) rfl
theorem q812 : (Jvm.Cond.codeWith ({ cls := "ShoeHouseLaw", name := "count", desc := "(LShoeHouse;I[J)I" } : Jvm.MethodName) method_4_code (4 : Nat) (Option.some Jvm.ClassFile.FieldType.int) [((0 : Nat), (9 : Nat), (12 : Nat), (18 : Nat))]) ∈ lw_all := lw_g (lw_at lw_m4 1 rfl) rfl
theorem q813 : (Jvm.Cond.classLink "ShoeHouseLaw" (18 : Nat) "java/util/NoSuchElementException") ∈ lw_all := lw_g (lw_at lw_m4 2 rfl) rfl
theorem q814 : (Jvm.Cond.methodLink "ShoeHouseLaw" (15 : Nat) ({ cls := "ShoeHouse", name := "count", desc := "(I)I" } : Jvm.MethodName)) ∈ lw_all := lw_g (lw_at lw_m4 3 rfl) rfl
theorem q837 : (Jvm.Cond.methodLink "ShoeHouseLaw" (121 : Nat) ({ cls := "ShoeHouseLaw", name := "room", desc := "(LShoeHouse;II[J)I" } : Jvm.MethodName)) ∈ lw_all := lw_g (lw_at lw_m4 26 rfl) rfl
theorem q838 : (Jvm.Cond.static ({ cls := "ShoeHouseLaw", name := "room", desc := "(LShoeHouse;II[J)I" } : Jvm.MethodName)) ∈ lw_all := lw_g (lw_at lw_m4 27 rfl) rfl
theorem q839 : (Jvm.Cond.codeWith ({ cls := "ShoeHouseLaw", name := "room", desc := "(LShoeHouse;II[J)I" } : Jvm.MethodName) method_5_code (5 : Nat) (Option.some Jvm.ClassFile.FieldType.int) [((0 : Nat), (10 : Nat), (13 : Nat), (18 : Nat))]) ∈ lw_all := lw_g (lw_at lw_m4 28 rfl) rfl
theorem q840 : (Jvm.Cond.methodLink "ShoeHouseLaw" (20 : Nat) ({ cls := "ShoeHouse", name := "room", desc := "(II)I" } : Jvm.MethodName)) ∈ lw_all := lw_g (lw_at lw_m4 29 rfl) rfl
theorem q852 : (Jvm.Cond.methodLink "ShoeHouseLaw" (125 : Nat) ({ cls := "ShoeHouseLaw", name := "lodger", desc := "(LShoeHouse;II[J)I" } : Jvm.MethodName)) ∈ lw_all := lw_g (lw_at lw_m4 41 rfl) rfl
theorem q853 : (Jvm.Cond.static ({ cls := "ShoeHouseLaw", name := "lodger", desc := "(LShoeHouse;II[J)I" } : Jvm.MethodName)) ∈ lw_all := lw_g (lw_at lw_m4 42 rfl) rfl
theorem q854 : (Jvm.Cond.codeWith ({ cls := "ShoeHouseLaw", name := "lodger", desc := "(LShoeHouse;II[J)I" } : Jvm.MethodName) method_6_code (5 : Nat) (Option.some Jvm.ClassFile.FieldType.int) [((0 : Nat), (10 : Nat), (13 : Nat), (18 : Nat))]) ∈ lw_all := lw_g (lw_at lw_m4 43 rfl) rfl
theorem q855 : (Jvm.Cond.methodLink "ShoeHouseLaw" (24 : Nat) ({ cls := "ShoeHouse", name := "lodger", desc := "(II)I" } : Jvm.MethodName)) ∈ lw_all := lw_g (lw_at lw_m4 44 rfl) rfl
theorem q863 : (Jvm.Cond.methodLink "ShoeHouseLaw" (128 : Nat) ({ cls := "ShoeHouseLaw", name := "may", desc := "(LShoeHouse;III[J)I" } : Jvm.MethodName)) ∈ lw_all := lw_g (lw_at lw_m4 52 rfl) rfl
theorem q864 : (Jvm.Cond.static ({ cls := "ShoeHouseLaw", name := "may", desc := "(LShoeHouse;III[J)I" } : Jvm.MethodName)) ∈ lw_all := lw_g (lw_at lw_m4 53 rfl) rfl
theorem q865 : (Jvm.Cond.codeWith ({ cls := "ShoeHouseLaw", name := "may", desc := "(LShoeHouse;III[J)I" } : Jvm.MethodName) method_7_code (6 : Nat) (Option.some Jvm.ClassFile.FieldType.int) [((0 : Nat), (12 : Nat), (15 : Nat), (18 : Nat))]) ∈ lw_all := lw_g (lw_at lw_m4 54 rfl) rfl
theorem q866 : (Jvm.Cond.methodLink "ShoeHouseLaw" (27 : Nat) ({ cls := "ShoeHouse", name := "may", desc := "(III)I" } : Jvm.MethodName)) ∈ lw_all := lw_g (lw_at lw_m4 55 rfl) rfl
theorem q873 : (Jvm.Cond.methodLink "ShoeHouseLaw" (132 : Nat) ({ cls := "ShoeHouseLaw", name := "says", desc := "(LShoeHouse;II[J)I" } : Jvm.MethodName)) ∈ lw_all := lw_g (lw_at lw_m4 62 rfl) rfl
theorem q874 : (Jvm.Cond.static ({ cls := "ShoeHouseLaw", name := "says", desc := "(LShoeHouse;II[J)I" } : Jvm.MethodName)) ∈ lw_all := lw_g (lw_at lw_m4 63 rfl) rfl
theorem q875 : (Jvm.Cond.codeWith ({ cls := "ShoeHouseLaw", name := "says", desc := "(LShoeHouse;II[J)I" } : Jvm.MethodName) method_8_code (5 : Nat) (Option.some Jvm.ClassFile.FieldType.int) [((0 : Nat), (10 : Nat), (13 : Nat), (18 : Nat))]) ∈ lw_all := lw_g (lw_at lw_m4 64 rfl) rfl
theorem q876 : (Jvm.Cond.methodLink "ShoeHouseLaw" (31 : Nat) ({ cls := "ShoeHouse", name := "says", desc := "(II)I" } : Jvm.MethodName)) ∈ lw_all := lw_g (lw_at lw_m4 65 rfl) rfl
theorem q881 : (Jvm.Cond.methodLink "ShoeHouseLaw" (135 : Nat) ({ cls := "ShoeHouseLaw", name := "lend", desc := "(LShoeHouse;III[J)I" } : Jvm.MethodName)) ∈ lw_all := lw_g (lw_at lw_m4 70 rfl) rfl
theorem q882 : (Jvm.Cond.static ({ cls := "ShoeHouseLaw", name := "lend", desc := "(LShoeHouse;III[J)I" } : Jvm.MethodName)) ∈ lw_all := lw_g (lw_at lw_m4 71 rfl) rfl
theorem q883 : (Jvm.Cond.codeWith ({ cls := "ShoeHouseLaw", name := "lend", desc := "(LShoeHouse;III[J)I" } : Jvm.MethodName) method_9_code (6 : Nat) (Option.some Jvm.ClassFile.FieldType.int) [((0 : Nat), (12 : Nat), (15 : Nat), (18 : Nat))]) ∈ lw_all := lw_g (lw_at lw_m4 72 rfl) rfl
theorem q884 : (Jvm.Cond.methodLink "ShoeHouseLaw" (34 : Nat) ({ cls := "ShoeHouse", name := "lend", desc := "(III)I" } : Jvm.MethodName)) ∈ lw_all := lw_g (lw_at lw_m4 73 rfl) rfl
theorem q908 : (Jvm.Cond.methodLink "ShoeHouseLaw" (147 : Nat) ({ cls := "ShoeHouseLaw", name := "does", desc := "(LShoeHouse;II[J)I" } : Jvm.MethodName)) ∈ lw_all := lw_g (lw_at lw_m4 97 rfl) rfl
theorem q909 : (Jvm.Cond.static ({ cls := "ShoeHouseLaw", name := "does", desc := "(LShoeHouse;II[J)I" } : Jvm.MethodName)) ∈ lw_all := lw_g (lw_at lw_m4 98 rfl) rfl
theorem q910 : (Jvm.Cond.codeWith ({ cls := "ShoeHouseLaw", name := "does", desc := "(LShoeHouse;II[J)I" } : Jvm.MethodName) method_10_code (5 : Nat) (Option.some Jvm.ClassFile.FieldType.int) [((0 : Nat), (10 : Nat), (13 : Nat), (18 : Nat))]) ∈ lw_all := lw_g (lw_at lw_m4 99 rfl) rfl
theorem q911 : (Jvm.Cond.methodLink "ShoeHouseLaw" (37 : Nat) ({ cls := "ShoeHouse", name := "does", desc := "(II)I" } : Jvm.MethodName)) ∈ lw_all := lw_g (lw_at lw_m4 100 rfl) rfl
theorem q915 : (Jvm.Cond.methodLink "ShoeHouseLaw" (150 : Nat) ({ cls := "ShoeHouseLaw", name := "sign", desc := "(LShoeHouse;II[J)I" } : Jvm.MethodName)) ∈ lw_all := lw_g (lw_at lw_m4 104 rfl) rfl
theorem q916 : (Jvm.Cond.static ({ cls := "ShoeHouseLaw", name := "sign", desc := "(LShoeHouse;II[J)I" } : Jvm.MethodName)) ∈ lw_all := lw_g (lw_at lw_m4 105 rfl) rfl
theorem q917 : (Jvm.Cond.codeWith ({ cls := "ShoeHouseLaw", name := "sign", desc := "(LShoeHouse;II[J)I" } : Jvm.MethodName) method_11_code (5 : Nat) (Option.some Jvm.ClassFile.FieldType.int) [((0 : Nat), (10 : Nat), (13 : Nat), (18 : Nat))]) ∈ lw_all := lw_g (lw_at lw_m4 106 rfl) rfl
theorem q918 : (Jvm.Cond.methodLink "ShoeHouseLaw" (40 : Nat) ({ cls := "ShoeHouse", name := "sign", desc := "(II)I" } : Jvm.MethodName)) ∈ lw_all := lw_g (lw_at lw_m4 107 rfl) rfl
theorem q926 : (Jvm.Cond.methodLink "ShoeHouseLaw" (153 : Nat) ({ cls := "ShoeHouseLaw", name := "look", desc := "(LShoeHouse;III[J)I" } : Jvm.MethodName)) ∈ lw_all := lw_g (lw_at lw_m4 115 rfl) rfl
theorem q927 : (Jvm.Cond.static ({ cls := "ShoeHouseLaw", name := "look", desc := "(LShoeHouse;III[J)I" } : Jvm.MethodName)) ∈ lw_all := lw_g (lw_at lw_m4 116 rfl) rfl
theorem q928 : (Jvm.Cond.codeWith ({ cls := "ShoeHouseLaw", name := "look", desc := "(LShoeHouse;III[J)I" } : Jvm.MethodName) method_12_code (6 : Nat) (Option.some Jvm.ClassFile.FieldType.int) [((0 : Nat), (12 : Nat), (15 : Nat), (18 : Nat))]) ∈ lw_all := lw_g (lw_at lw_m4 117 rfl) rfl
theorem q929 : (Jvm.Cond.methodLink "ShoeHouseLaw" (43 : Nat) ({ cls := "ShoeHouse", name := "look", desc := "(III)I" } : Jvm.MethodName)) ∈ lw_all := lw_g (lw_at lw_m4 118 rfl) rfl
theorem q933 : (Jvm.Cond.methodLink "ShoeHouseLaw" (156 : Nat) ({ cls := "ShoeHouseLaw", name := "theft", desc := "(LShoeHouse;II[J)I" } : Jvm.MethodName)) ∈ lw_all := lw_g (lw_at lw_m4 122 rfl) rfl
theorem q934 : (Jvm.Cond.static ({ cls := "ShoeHouseLaw", name := "theft", desc := "(LShoeHouse;II[J)I" } : Jvm.MethodName)) ∈ lw_all := lw_g (lw_at lw_m4 123 rfl) rfl
theorem q935 : (Jvm.Cond.codeWith ({ cls := "ShoeHouseLaw", name := "theft", desc := "(LShoeHouse;II[J)I" } : Jvm.MethodName) method_13_code (5 : Nat) (Option.some Jvm.ClassFile.FieldType.int) [((0 : Nat), (10 : Nat), (13 : Nat), (18 : Nat))]) ∈ lw_all := lw_g (lw_at lw_m4 124 rfl) rfl
theorem q936 : (Jvm.Cond.methodLink "ShoeHouseLaw" (46 : Nat) ({ cls := "ShoeHouse", name := "theft", desc := "(II)I" } : Jvm.MethodName)) ∈ lw_all := lw_g (lw_at lw_m4 125 rfl) rfl
theorem q940 : (Jvm.Cond.methodLink "ShoeHouseLaw" (159 : Nat) ({ cls := "ShoeHouseLaw", name := "see", desc := "(LShoeHouse;III[J)I" } : Jvm.MethodName)) ∈ lw_all := lw_g (lw_at lw_m4 129 rfl) rfl
theorem q941 : (Jvm.Cond.static ({ cls := "ShoeHouseLaw", name := "see", desc := "(LShoeHouse;III[J)I" } : Jvm.MethodName)) ∈ lw_all := lw_g (lw_at lw_m4 130 rfl) rfl
theorem q942 : (Jvm.Cond.codeWith ({ cls := "ShoeHouseLaw", name := "see", desc := "(LShoeHouse;III[J)I" } : Jvm.MethodName) method_14_code (6 : Nat) (Option.some Jvm.ClassFile.FieldType.int) [((0 : Nat), (12 : Nat), (15 : Nat), (18 : Nat))]) ∈ lw_all := lw_g (lw_at lw_m4 131 rfl) rfl
theorem q943 : (Jvm.Cond.methodLink "ShoeHouseLaw" (49 : Nat) ({ cls := "ShoeHouse", name := "see", desc := "(III)I" } : Jvm.MethodName)) ∈ lw_all := lw_g (lw_at lw_m4 132 rfl) rfl
theorem q947 : (Jvm.Cond.methodLink "ShoeHouseLaw" (170 : Nat) ({ cls := "ShoeHouseLaw", name := "inCase", desc := "(LShoeHouse;II[J)I" } : Jvm.MethodName)) ∈ lw_all := lw_g (lw_at lw_m4 136 rfl) rfl
theorem q948 : (Jvm.Cond.static ({ cls := "ShoeHouseLaw", name := "inCase", desc := "(LShoeHouse;II[J)I" } : Jvm.MethodName)) ∈ lw_all := lw_g (lw_at lw_m4 137 rfl) rfl
theorem q949 : (Jvm.Cond.codeWith ({ cls := "ShoeHouseLaw", name := "inCase", desc := "(LShoeHouse;II[J)I" } : Jvm.MethodName) method_15_code (5 : Nat) (Option.some Jvm.ClassFile.FieldType.int) [((0 : Nat), (10 : Nat), (13 : Nat), (18 : Nat))]) ∈ lw_all := lw_g (lw_at lw_m4 138 rfl) rfl
theorem q950 : (Jvm.Cond.methodLink "ShoeHouseLaw" (52 : Nat) ({ cls := "ShoeHouse", name := "inCase", desc := "(II)I" } : Jvm.MethodName)) ∈ lw_all := lw_g (lw_at lw_m4 139 rfl) rfl
theorem q958 : (Jvm.Cond.methodLink "ShoeHouseLaw" (173 : Nat) ({ cls := "ShoeHouseLaw", name := "sure", desc := "(LShoeHouse;I[J)I" } : Jvm.MethodName)) ∈ lw_all := lw_g (lw_at lw_m4 147 rfl) rfl
theorem q959 : (Jvm.Cond.static ({ cls := "ShoeHouseLaw", name := "sure", desc := "(LShoeHouse;I[J)I" } : Jvm.MethodName)) ∈ lw_all := lw_g (lw_at lw_m4 148 rfl) rfl
theorem q960 : (Jvm.Cond.codeWith ({ cls := "ShoeHouseLaw", name := "sure", desc := "(LShoeHouse;I[J)I" } : Jvm.MethodName) method_16_code (4 : Nat) (Option.some Jvm.ClassFile.FieldType.int) [((0 : Nat), (9 : Nat), (12 : Nat), (18 : Nat))]) ∈ lw_all := lw_g (lw_at lw_m4 149 rfl) rfl
theorem q961 : (Jvm.Cond.methodLink "ShoeHouseLaw" (55 : Nat) ({ cls := "ShoeHouse", name := "sure", desc := "(I)I" } : Jvm.MethodName)) ∈ lw_all := lw_g (lw_at lw_m4 150 rfl) rfl
theorem q977 : (Jvm.Cond.methodLink "ShoeHouseLaw" (176 : Nat) ({ cls := "ShoeHouseLaw", name := "where", desc := "(LShoeHouse;I[J)I" } : Jvm.MethodName)) ∈ lw_all := lw_g (lw_at lw_m4 166 rfl) rfl
theorem q978 : (Jvm.Cond.static ({ cls := "ShoeHouseLaw", name := "where", desc := "(LShoeHouse;I[J)I" } : Jvm.MethodName)) ∈ lw_all := lw_g (lw_at lw_m4 167 rfl) rfl
theorem q979 : (Jvm.Cond.codeWith ({ cls := "ShoeHouseLaw", name := "where", desc := "(LShoeHouse;I[J)I" } : Jvm.MethodName) method_17_code (4 : Nat) (Option.some Jvm.ClassFile.FieldType.int) [((0 : Nat), (9 : Nat), (12 : Nat), (18 : Nat))]) ∈ lw_all := lw_g (lw_at lw_m4 168 rfl) rfl
theorem q980 : (Jvm.Cond.methodLink "ShoeHouseLaw" (58 : Nat) ({ cls := "ShoeHouse", name := "where", desc := "(I)I" } : Jvm.MethodName)) ∈ lw_all := lw_g (lw_at lw_m4 169 rfl) rfl
theorem q985 : (Jvm.Cond.methodLink "ShoeHouseLaw" (179 : Nat) ({ cls := "ShoeHouseLaw", name := "misled", desc := "(LShoeHouse;III[J)I" } : Jvm.MethodName)) ∈ lw_all := lw_g (lw_at lw_m4 174 rfl) rfl
theorem q986 : (Jvm.Cond.static ({ cls := "ShoeHouseLaw", name := "misled", desc := "(LShoeHouse;III[J)I" } : Jvm.MethodName)) ∈ lw_all := lw_g (lw_at lw_m4 175 rfl) rfl
theorem q987 : (Jvm.Cond.codeWith ({ cls := "ShoeHouseLaw", name := "misled", desc := "(LShoeHouse;III[J)I" } : Jvm.MethodName) method_18_code (6 : Nat) (Option.some Jvm.ClassFile.FieldType.int) [((0 : Nat), (12 : Nat), (15 : Nat), (18 : Nat))]) ∈ lw_all := lw_g (lw_at lw_m4 176 rfl) rfl
theorem q988 : (Jvm.Cond.methodLink "ShoeHouseLaw" (61 : Nat) ({ cls := "ShoeHouse", name := "misled", desc := "(III)I" } : Jvm.MethodName)) ∈ lw_all := lw_g (lw_at lw_m4 177 rfl) rfl
theorem q1004 : (Jvm.Cond.methodLink "ShoeHouseLaw" (182 : Nat) ({ cls := "ShoeHouseLaw", name := "chance", desc := "(LShoeHouse;II[J)I" } : Jvm.MethodName)) ∈ lw_all := lw_g (lw_at lw_m4 193 rfl) rfl
theorem q1005 : (Jvm.Cond.static ({ cls := "ShoeHouseLaw", name := "chance", desc := "(LShoeHouse;II[J)I" } : Jvm.MethodName)) ∈ lw_all := lw_g (lw_at lw_m4 194 rfl) rfl
theorem q1006 : (Jvm.Cond.codeWith ({ cls := "ShoeHouseLaw", name := "chance", desc := "(LShoeHouse;II[J)I" } : Jvm.MethodName) method_19_code (5 : Nat) (Option.some Jvm.ClassFile.FieldType.int) [((0 : Nat), (10 : Nat), (13 : Nat), (18 : Nat))]) ∈ lw_all := lw_g (lw_at lw_m4 195 rfl) rfl
theorem q1007 : (Jvm.Cond.methodLink "ShoeHouseLaw" (64 : Nat) ({ cls := "ShoeHouse", name := "chance", desc := "(II)I" } : Jvm.MethodName)) ∈ lw_all := lw_g (lw_at lw_m4 196 rfl) rfl
theorem q1015 : (Jvm.Cond.methodLink "ShoeHouseLaw" (185 : Nat) ({ cls := "ShoeHouseLaw", name := "round", desc := "(LShoeHouse;III[J)I" } : Jvm.MethodName)) ∈ lw_all := lw_g (lw_at lw_m4 204 rfl) rfl
theorem q1016 : (Jvm.Cond.static ({ cls := "ShoeHouseLaw", name := "round", desc := "(LShoeHouse;III[J)I" } : Jvm.MethodName)) ∈ lw_all := lw_g (lw_at lw_m4 205 rfl) rfl
theorem q1017 : (Jvm.Cond.codeWith ({ cls := "ShoeHouseLaw", name := "round", desc := "(LShoeHouse;III[J)I" } : Jvm.MethodName) method_20_code (6 : Nat) (Option.some Jvm.ClassFile.FieldType.int) [((0 : Nat), (12 : Nat), (15 : Nat), (18 : Nat)), ((0 : Nat), (12 : Nat), (19 : Nat), (13 : Nat))]) ∈ lw_all := lw_g (lw_at lw_m4 206 rfl) rfl
theorem q1018 : (Jvm.Cond.methodLink "ShoeHouseLaw" (67 : Nat) ({ cls := "ShoeHouse", name := "round", desc := "(III)I" } : Jvm.MethodName)) ∈ lw_all := lw_g (lw_at lw_m4 207 rfl) rfl
theorem q1065 : (Jvm.Cond.methodLink "ShoeHouseLaw" (188 : Nat) ({ cls := "ShoeHouseLaw", name := "path", desc := "(LShoeHouse;II[J)I" } : Jvm.MethodName)) ∈ lw_all := lw_g (lw_at lw_m5 14 rfl) rfl
theorem q1066 : (Jvm.Cond.static ({ cls := "ShoeHouseLaw", name := "path", desc := "(LShoeHouse;II[J)I" } : Jvm.MethodName)) ∈ lw_all := lw_g (lw_at lw_m5 15 rfl) rfl
theorem q1067 : (Jvm.Cond.codeWith ({ cls := "ShoeHouseLaw", name := "path", desc := "(LShoeHouse;II[J)I" } : Jvm.MethodName) method_21_code (5 : Nat) (Option.some Jvm.ClassFile.FieldType.int) [((0 : Nat), (10 : Nat), (13 : Nat), (18 : Nat))]) ∈ lw_all := lw_g (lw_at lw_m5 16 rfl) rfl
theorem q1068 : (Jvm.Cond.methodLink "ShoeHouseLaw" (70 : Nat) ({ cls := "ShoeHouse", name := "path", desc := "(II)I" } : Jvm.MethodName)) ∈ lw_all := lw_g (lw_at lw_m5 17 rfl) rfl
theorem q1072 : (Jvm.Cond.methodLink "ShoeHouseLaw" (191 : Nat) ({ cls := "ShoeHouseLaw", name := "rests", desc := "(LShoeHouse;III[J)I" } : Jvm.MethodName)) ∈ lw_all := lw_g (lw_at lw_m5 21 rfl) rfl
theorem q1073 : (Jvm.Cond.static ({ cls := "ShoeHouseLaw", name := "rests", desc := "(LShoeHouse;III[J)I" } : Jvm.MethodName)) ∈ lw_all := lw_g (lw_at lw_m5 22 rfl) rfl
theorem q1074 : (Jvm.Cond.codeWith ({ cls := "ShoeHouseLaw", name := "rests", desc := "(LShoeHouse;III[J)I" } : Jvm.MethodName) method_22_code (6 : Nat) (Option.some Jvm.ClassFile.FieldType.int) [((0 : Nat), (12 : Nat), (15 : Nat), (18 : Nat)), ((0 : Nat), (12 : Nat), (19 : Nat), (13 : Nat))]) ∈ lw_all := lw_g (lw_at lw_m5 23 rfl) rfl
theorem q1075 : (Jvm.Cond.methodLink "ShoeHouseLaw" (73 : Nat) ({ cls := "ShoeHouse", name := "rests", desc := "(III)I" } : Jvm.MethodName)) ∈ lw_all := lw_g (lw_at lw_m5 24 rfl) rfl
theorem q1087 : (Jvm.Cond.methodLink "ShoeHouseLaw" (194 : Nat) ({ cls := "ShoeHouseLaw", name := "fewest", desc := "(LShoeHouse;II[J)I" } : Jvm.MethodName)) ∈ lw_all := lw_g (lw_at lw_m5 36 rfl) rfl
theorem q1088 : (Jvm.Cond.static ({ cls := "ShoeHouseLaw", name := "fewest", desc := "(LShoeHouse;II[J)I" } : Jvm.MethodName)) ∈ lw_all := lw_g (lw_at lw_m5 37 rfl) rfl
theorem q1089 : (Jvm.Cond.codeWith ({ cls := "ShoeHouseLaw", name := "fewest", desc := "(LShoeHouse;II[J)I" } : Jvm.MethodName) method_23_code (5 : Nat) (Option.some Jvm.ClassFile.FieldType.int) [((0 : Nat), (10 : Nat), (13 : Nat), (13 : Nat))]) ∈ lw_all := lw_g (lw_at lw_m5 38 rfl) rfl
theorem q1090 : (Jvm.Cond.methodLink "ShoeHouseLaw" (76 : Nat) ({ cls := "ShoeHouse", name := "fewest", desc := "(II)I" } : Jvm.MethodName)) ∈ lw_all := lw_g (lw_at lw_m5 39 rfl) rfl
theorem q1142 : (Jvm.Cond.methodLink "ShoeHouseLaw" (197 : Nat) ({ cls := "ShoeHouseLaw", name := "lender", desc := "(LShoeHouse;I[J)I" } : Jvm.MethodName)) ∈ lw_all := lw_g (lw_at lw_m5 91 rfl) rfl
theorem q1143 : (Jvm.Cond.static ({ cls := "ShoeHouseLaw", name := "lender", desc := "(LShoeHouse;I[J)I" } : Jvm.MethodName)) ∈ lw_all := lw_g (lw_at lw_m5 92 rfl) rfl
theorem q1144 : (Jvm.Cond.codeWith ({ cls := "ShoeHouseLaw", name := "lender", desc := "(LShoeHouse;I[J)I" } : Jvm.MethodName) method_24_code (4 : Nat) (Option.some Jvm.ClassFile.FieldType.int) [((0 : Nat), (9 : Nat), (12 : Nat), (18 : Nat))]) ∈ lw_all := lw_g (lw_at lw_m5 93 rfl) rfl
theorem q1145 : (Jvm.Cond.methodLink "ShoeHouseLaw" (79 : Nat) ({ cls := "ShoeHouse", name := "lender", desc := "(I)I" } : Jvm.MethodName)) ∈ lw_all := lw_g (lw_at lw_m5 94 rfl) rfl
theorem q1149 : (Jvm.Cond.methodLink "ShoeHouseLaw" (200 : Nat) ({ cls := "ShoeHouseLaw", name := "kinds", desc := "(LShoeHouse;II[J)I" } : Jvm.MethodName)) ∈ lw_all := lw_g (lw_at lw_m5 98 rfl) rfl
theorem q1150 : (Jvm.Cond.static ({ cls := "ShoeHouseLaw", name := "kinds", desc := "(LShoeHouse;II[J)I" } : Jvm.MethodName)) ∈ lw_all := lw_g (lw_at lw_m5 99 rfl) rfl
theorem q1151 : (Jvm.Cond.codeWith ({ cls := "ShoeHouseLaw", name := "kinds", desc := "(LShoeHouse;II[J)I" } : Jvm.MethodName) method_25_code (5 : Nat) (Option.some Jvm.ClassFile.FieldType.int) [((0 : Nat), (10 : Nat), (13 : Nat), (13 : Nat))]) ∈ lw_all := lw_g (lw_at lw_m5 100 rfl) rfl
theorem q1152 : (Jvm.Cond.methodLink "ShoeHouseLaw" (82 : Nat) ({ cls := "ShoeHouse", name := "kinds", desc := "(II)I" } : Jvm.MethodName)) ∈ lw_all := lw_g (lw_at lw_m5 101 rfl) rfl
theorem q1162 : (Jvm.Cond.methodLink "ShoeHouseLaw" (203 : Nat) ({ cls := "ShoeHouseLaw", name := "word", desc := "(LShoeHouse;II[J)I" } : Jvm.MethodName)) ∈ lw_all := lw_g (lw_at lw_m5 111 rfl) rfl
theorem q1163 : (Jvm.Cond.static ({ cls := "ShoeHouseLaw", name := "word", desc := "(LShoeHouse;II[J)I" } : Jvm.MethodName)) ∈ lw_all := lw_g (lw_at lw_m5 112 rfl) rfl
theorem q1164 : (Jvm.Cond.codeWith ({ cls := "ShoeHouseLaw", name := "word", desc := "(LShoeHouse;II[J)I" } : Jvm.MethodName) method_26_code (5 : Nat) (Option.some Jvm.ClassFile.FieldType.int) [((0 : Nat), (10 : Nat), (13 : Nat), (18 : Nat)), ((0 : Nat), (10 : Nat), (17 : Nat), (13 : Nat))]) ∈ lw_all := lw_g (lw_at lw_m5 113 rfl) rfl
theorem q1165 : (Jvm.Cond.methodLink "ShoeHouseLaw" (85 : Nat) ({ cls := "ShoeHouse", name := "word", desc := "(II)I" } : Jvm.MethodName)) ∈ lw_all := lw_g (lw_at lw_m5 114 rfl) rfl
theorem q1169 : (Jvm.Cond.methodLink "ShoeHouseLaw" (206 : Nat) ({ cls := "ShoeHouseLaw", name := "mend", desc := "(LShoeHouse;III[J)I" } : Jvm.MethodName)) ∈ lw_all := lw_g (lw_at lw_m5 118 rfl) rfl
theorem q1170 : (Jvm.Cond.static ({ cls := "ShoeHouseLaw", name := "mend", desc := "(LShoeHouse;III[J)I" } : Jvm.MethodName)) ∈ lw_all := lw_g (lw_at lw_m5 119 rfl) rfl
theorem q1171 : (Jvm.Cond.codeWith ({ cls := "ShoeHouseLaw", name := "mend", desc := "(LShoeHouse;III[J)I" } : Jvm.MethodName) method_27_code (6 : Nat) (Option.some Jvm.ClassFile.FieldType.int) [((0 : Nat), (12 : Nat), (15 : Nat), (13 : Nat))]) ∈ lw_all := lw_g (lw_at lw_m5 120 rfl) rfl
theorem q1172 : (Jvm.Cond.methodLink "ShoeHouseLaw" (88 : Nat) ({ cls := "ShoeHouse", name := "mend", desc := "(III)I" } : Jvm.MethodName)) ∈ lw_all := lw_g (lw_at lw_m5 121 rfl) rfl
theorem q1176 : (Jvm.Cond.methodLink "ShoeHouseLaw" (209 : Nat) ({ cls := "ShoeHouseLaw", name := "fire", desc := "(LShoeHouse;IIIII[J)I" } : Jvm.MethodName)) ∈ lw_all := lw_g (lw_at lw_m5 125 rfl) rfl
theorem q1177 : (Jvm.Cond.static ({ cls := "ShoeHouseLaw", name := "fire", desc := "(LShoeHouse;IIIII[J)I" } : Jvm.MethodName)) ∈ lw_all := lw_g (lw_at lw_m5 126 rfl) rfl
theorem q1178 : (Jvm.Cond.codeWith ({ cls := "ShoeHouseLaw", name := "fire", desc := "(LShoeHouse;IIIII[J)I" } : Jvm.MethodName) method_28_code (8 : Nat) (Option.some Jvm.ClassFile.FieldType.int) [((0 : Nat), (15 : Nat), (18 : Nat), (18 : Nat)), ((0 : Nat), (15 : Nat), (22 : Nat), (13 : Nat))]) ∈ lw_all := lw_g (lw_at lw_m5 127 rfl) rfl
theorem q1179 : (Jvm.Cond.methodLink "ShoeHouseLaw" (91 : Nat) ({ cls := "ShoeHouse", name := "fire", desc := "(IIIII)J" } : Jvm.MethodName)) ∈ lw_all := lw_g (lw_at lw_m5 128 rfl) rfl
theorem q1191 : (Jvm.Cond.classLink "ShoeHouseLaw" (96 : Nat) "ShoeHouseModel") ∈ lw_all := lw_g (lw_at lw_m5 140 rfl) rfl
theorem q1193 : (Jvm.Cond.methodLink "ShoeHouseLaw" (98 : Nat) ({ cls := "ShoeHouseModel", name := "<init>", desc := "()V" } : Jvm.MethodName)) ∈ lw_all := lw_g (lw_at lw_m5 142 rfl) rfl
theorem q1405 : (Jvm.Cond.methodLink "ShoeHouseLaw" (110 : Nat) ({ cls := "ShoeHouseModel", name := "thrown", desc := "()I" } : Jvm.MethodName)) ∈ lw_all := lw_g (lw_at lw_m6 114 rfl) rfl
theorem q1409 : (Jvm.Cond.methodLink "ShoeHouseLaw" (103 : Nat) ({ cls := "ShoeHouseModel", name := "feed", desc := "(IIIII)I" } : Jvm.MethodName)) ∈ lw_all := lw_g (lw_at lw_m6 118 rfl) rfl
theorem q1417 : (Jvm.Cond.methodLink "ShoeHouseLaw" (109 : Nat) ({ cls := "ShoeHouseModel", name := "house", desc := "(I)I" } : Jvm.MethodName)) ∈ lw_all := lw_g (lw_at lw_m6 126 rfl) rfl
theorem q1497 : (Jvm.Cond.methodLink "ShoeHouseLaw" (117 : Nat) ({ cls := "ShoeHouseModel", name := "fault", desc := "()I" } : Jvm.MethodName)) ∈ lw_all := lw_g (lw_at lw_m6 206 rfl) rfl
theorem q1501 : (Jvm.Cond.methodLink "ShoeHouseLaw" (120 : Nat) ({ cls := "ShoeHouseModel", name := "count", desc := "(I)I" } : Jvm.MethodName)) ∈ lw_all := lw_g (lw_at lw_m6 210 rfl) rfl
theorem q1508 : (Jvm.Cond.methodLink "ShoeHouseLaw" (124 : Nat) ({ cls := "ShoeHouseModel", name := "room", desc := "(II)I" } : Jvm.MethodName)) ∈ lw_all := lw_g (lw_at lw_m6 217 rfl) rfl
theorem q1520 : (Jvm.Cond.methodLink "ShoeHouseLaw" (127 : Nat) ({ cls := "ShoeHouseModel", name := "lodger", desc := "(II)I" } : Jvm.MethodName)) ∈ lw_all := lw_g (lw_at lw_m6 229 rfl) rfl
theorem q1532 : (Jvm.Cond.methodLink "ShoeHouseLaw" (131 : Nat) ({ cls := "ShoeHouseModel", name := "may", desc := "(III)I" } : Jvm.MethodName)) ∈ lw_all := lw_g (lw_at lw_m7 1 rfl) rfl
theorem q1546 : (Jvm.Cond.methodLink "ShoeHouseLaw" (134 : Nat) ({ cls := "ShoeHouseModel", name := "says", desc := "(II)I" } : Jvm.MethodName)) ∈ lw_all := lw_g (lw_at lw_m7 15 rfl) rfl
theorem q1562 : (Jvm.Cond.methodLink "ShoeHouseLaw" (137 : Nat) ({ cls := "ShoeHouseModel", name := "lend", desc := "(III)I" } : Jvm.MethodName)) ∈ lw_all := lw_g (lw_at lw_m7 31 rfl) rfl
theorem q1570 : (Jvm.Cond.methodLink "ShoeHouseLaw" (141 : Nat) ({ cls := "ShoeHouseModel", name := "back", desc := "()I" } : Jvm.MethodName)) ∈ lw_all := lw_g (lw_at lw_m7 39 rfl) rfl
theorem q1574 : (Jvm.Cond.methodLink "ShoeHouseLaw" (146 : Nat) ({ cls := "ShoeHouseModel", name := "draw", desc := "(I)V" } : Jvm.MethodName)) ∈ lw_all := lw_g (lw_at lw_m7 43 rfl) rfl
theorem q1579 : (Jvm.Cond.methodLink "ShoeHouseLaw" (149 : Nat) ({ cls := "ShoeHouseModel", name := "does", desc := "(II)I" } : Jvm.MethodName)) ∈ lw_all := lw_g (lw_at lw_m7 48 rfl) rfl
theorem q1583 : (Jvm.Cond.methodLink "ShoeHouseLaw" (152 : Nat) ({ cls := "ShoeHouseModel", name := "sign", desc := "(II)I" } : Jvm.MethodName)) ∈ lw_all := lw_g (lw_at lw_m7 52 rfl) rfl
theorem q1591 : (Jvm.Cond.methodLink "ShoeHouseLaw" (155 : Nat) ({ cls := "ShoeHouseModel", name := "look", desc := "(III)I" } : Jvm.MethodName)) ∈ lw_all := lw_g (lw_at lw_m7 60 rfl) rfl
theorem q1599 : (Jvm.Cond.methodLink "ShoeHouseLaw" (158 : Nat) ({ cls := "ShoeHouseModel", name := "theft", desc := "(II)I" } : Jvm.MethodName)) ∈ lw_all := lw_g (lw_at lw_m7 68 rfl) rfl
theorem q1603 : (Jvm.Cond.methodLink "ShoeHouseLaw" (161 : Nat) ({ cls := "ShoeHouseModel", name := "see", desc := "(III)I" } : Jvm.MethodName)) ∈ lw_all := lw_g (lw_at lw_m7 72 rfl) rfl
theorem q1607 : (Jvm.Cond.methodLink "ShoeHouseLaw" (165 : Nat) ({ cls := "ShoeHouseModel", name := "forget", desc := "()I" } : Jvm.MethodName)) ∈ lw_all := lw_g (lw_at lw_m7 76 rfl) rfl
theorem q1611 : (Jvm.Cond.methodLink "ShoeHouseLaw" (169 : Nat) ({ cls := "ShoeHouseModel", name := "cases", desc := "()I" } : Jvm.MethodName)) ∈ lw_all := lw_g (lw_at lw_m7 80 rfl) rfl
theorem q1639 : (Jvm.Cond.methodLink "ShoeHouseLaw" (172 : Nat) ({ cls := "ShoeHouseModel", name := "inCase", desc := "(II)I" } : Jvm.MethodName)) ∈ lw_all := lw_g (lw_at lw_m7 108 rfl) rfl
theorem q1643 : (Jvm.Cond.methodLink "ShoeHouseLaw" (175 : Nat) ({ cls := "ShoeHouseModel", name := "sure", desc := "(I)I" } : Jvm.MethodName)) ∈ lw_all := lw_g (lw_at lw_m7 112 rfl) rfl
theorem q1659 : (Jvm.Cond.methodLink "ShoeHouseLaw" (178 : Nat) ({ cls := "ShoeHouseModel", name := "where", desc := "(I)I" } : Jvm.MethodName)) ∈ lw_all := lw_g (lw_at lw_m7 128 rfl) rfl
theorem q1663 : (Jvm.Cond.methodLink "ShoeHouseLaw" (181 : Nat) ({ cls := "ShoeHouseModel", name := "misled", desc := "(III)I" } : Jvm.MethodName)) ∈ lw_all := lw_g (lw_at lw_m7 132 rfl) rfl
theorem q1679 : (Jvm.Cond.methodLink "ShoeHouseLaw" (184 : Nat) ({ cls := "ShoeHouseModel", name := "chance", desc := "(II)I" } : Jvm.MethodName)) ∈ lw_all := lw_g (lw_at lw_m7 148 rfl) rfl
theorem q1687 : (Jvm.Cond.methodLink "ShoeHouseLaw" (187 : Nat) ({ cls := "ShoeHouseModel", name := "round", desc := "(III)I" } : Jvm.MethodName)) ∈ lw_all := lw_g (lw_at lw_m7 156 rfl) rfl
theorem q1703 : (Jvm.Cond.methodLink "ShoeHouseLaw" (190 : Nat) ({ cls := "ShoeHouseModel", name := "path", desc := "(II)I" } : Jvm.MethodName)) ∈ lw_all := lw_g (lw_at lw_m7 172 rfl) rfl
theorem q1707 : (Jvm.Cond.methodLink "ShoeHouseLaw" (193 : Nat) ({ cls := "ShoeHouseModel", name := "rests", desc := "(III)I" } : Jvm.MethodName)) ∈ lw_all := lw_g (lw_at lw_m7 176 rfl) rfl
theorem q1719 : (Jvm.Cond.methodLink "ShoeHouseLaw" (196 : Nat) ({ cls := "ShoeHouseModel", name := "fewest", desc := "(II)I" } : Jvm.MethodName)) ∈ lw_all := lw_g (lw_at lw_m7 188 rfl) rfl
theorem q1739 : (Jvm.Cond.methodLink "ShoeHouseLaw" (199 : Nat) ({ cls := "ShoeHouseModel", name := "lender", desc := "(I)I" } : Jvm.MethodName)) ∈ lw_all := lw_g (lw_at lw_m7 208 rfl) rfl
theorem q1743 : (Jvm.Cond.methodLink "ShoeHouseLaw" (202 : Nat) ({ cls := "ShoeHouseModel", name := "kinds", desc := "(II)I" } : Jvm.MethodName)) ∈ lw_all := lw_g (lw_at lw_m7 212 rfl) rfl
theorem q1758 : (Jvm.Cond.methodLink "ShoeHouseLaw" (205 : Nat) ({ cls := "ShoeHouseModel", name := "word", desc := "(II)I" } : Jvm.MethodName)) ∈ lw_all := lw_g (lw_at lw_m7 227 rfl) rfl
theorem q1762 : (Jvm.Cond.methodLink "ShoeHouseLaw" (208 : Nat) ({ cls := "ShoeHouseModel", name := "mend", desc := "(III)I" } : Jvm.MethodName)) ∈ lw_all := lw_g (lw_at lw_m7 231 rfl) rfl
theorem q1766 : (Jvm.Cond.methodLink "ShoeHouseLaw" (212 : Nat) ({ cls := "ShoeHouseModel", name := "fire", desc := "(IIIII)J" } : Jvm.MethodName)) ∈ lw_all := lw_g (lw_at lw_m7 235 rfl) rfl
theorem q1773 : (Jvm.Cond.methodLink "ShoeHouseLaw" (216 : Nat) ({ cls := "ShoeHouseModel", name := "image", desc := "()V" } : Jvm.MethodName)) ∈ lw_all := lw_g (lw_at lw_m8 2 rfl) rfl
theorem q1777 : (Jvm.Cond.methodLink "ShoeHouseLaw" (221 : Nat) ({ cls := "ShoeHouseModel", name := "restore", desc := "()Z" } : Jvm.MethodName)) ∈ lw_all := lw_g (lw_at lw_m8 6 rfl) rfl
/-! ShoeHouse -/
def RX1 : String := "ShoeHouse"
def TX1 : u_T := fun k => match k with
  | 0 => ("ShoeHouse", "house", "LShoeHouse$House;", false)
  | 1 => ("ShoeHouse", "tape", "[B", true)
  | 2 => ("ShoeHouse", "taped", "I", false)
  | 3 => ("ShoeHouse", "faultPlace", "I", false)
  | 4 => ("ShoeHouse", "refused", "[I", true)
  | 5 => ("ShoeHouse", "signs", "[I", true)
  | 6 => ("ShoeHouse", "loans", "Ljava/util/List;", false)
  | 7 => ("ShoeHouse", "day", "[I", false)
  | 8 => ("ShoeHouse", "looks", "[I", false)
  | 9 => ("ShoeHouse", "seenHour", "I", false)
  | 10 => ("ShoeHouse", "seen", "I", false)
  | 11 => ("ShoeHouse", "pathKept", "[I", false)
  | 12 => ("ShoeHouse", "lendersKept", "[I", false)
  | 13 => ("ShoeHouse", "looksKept", "[Z", false)
  | 14 => ("ShoeHouse", "loansThen", "Ljava/util/List;", false)
  | 15 => ("ShoeHouse", "dayThen", "[I", false)
  | 16 => ("ShoeHouse", "looksThen", "[I", false)
  | 17 => ("ShoeHouse", "signsThen", "[I", false)
  | 18 => ("ShoeHouse", "seenHourThen", "I", false)
  | _ => ("ShoeHouse", "seenThen", "I", false)
def tyX1 : Nat → FieldType := fun k => match k with
  | 0 => .object "ShoeHouse$House"
  | 1 => .array .byte
  | 2 => .int
  | 3 => .int
  | 4 => .array .int
  | 5 => .array .int
  | 6 => .object "java/util/List"
  | 7 => .array .int
  | 8 => .array .int
  | 9 => .int
  | 10 => .int
  | 11 => .array .int
  | 12 => .array .int
  | 13 => .array .boolean
  | 14 => .object "java/util/List"
  | 15 => .array .int
  | 16 => .array .int
  | 17 => .array .int
  | 18 => .int
  | _ => .int
abbrev wsX10 : List Cond := u_ws RX1 TX1 20
theorem nmX1 : ∀ a, a < 20 → ∀ b, b < 20 → a ≠ b → (TX1 a).2.1 ≠ (TX1 b).2.1 := by decide +kernel
theorem tyX1_ok : ∀ k, k < 20 → parseFieldDescriptor (TX1 k).2.2.1 = some (tyX1 k) := by decide +kernel
abbrev cX1_init : ByteArray := prog_1_method_4_code
def yX1_init : MethodName := ⟨RX1, "<init>", "()V"⟩
abbrev cX1_feed : ByteArray := prog_1_method_5_code
def yX1_feed : MethodName := ⟨RX1, "feed", "(IIIII)I"⟩
abbrev cX1_fault : ByteArray := prog_1_method_7_code
def yX1_fault : MethodName := ⟨RX1, "fault", "()I"⟩
abbrev cX1_back : ByteArray := prog_1_method_23_code
def yX1_back : MethodName := ⟨RX1, "back", "()I"⟩
abbrev cX1_draw : ByteArray := prog_1_method_24_code
def yX1_draw : MethodName := ⟨RX1, "draw", "(I)V"⟩
abbrev cX1_lodgers : ByteArray := prog_1_method_8_code
def yX1_lodgers : MethodName := ⟨RX1, "lodgers", "()I"⟩
abbrev cX1_of : ByteArray := prog_1_method_9_code
def yX1_of : MethodName := ⟨RX1, "of", "(I)LShoeHouse$Lodger;"⟩
abbrev cX1_forget : ByteArray := prog_1_method_31_code
def yX1_forget : MethodName := ⟨RX1, "forget", "()I"⟩
abbrev cX1_cases : ByteArray := prog_1_method_33_code
def yX1_cases : MethodName := ⟨RX1, "cases", "()I"⟩
abbrev cX1_now : ByteArray := prog_1_method_32_code
def yX1_now : MethodName := ⟨RX1, "now", "()LShoeHouse$Cases;"⟩
abbrev cX1_signFor : ByteArray := prog_1_method_20_code
def yX1_signFor : MethodName := ⟨RX1, "signFor", "(II)I"⟩
abbrev cX1_feet : ByteArray := prog_1_method_17_code
def yX1_feet : MethodName := ⟨RX1, "feet", "(I)I"⟩
abbrev cX1_shoes : ByteArray := prog_1_method_16_code
def yX1_shoes : MethodName := ⟨RX1, "shoes", "(II)I"⟩
abbrev cX1_image : ByteArray := prog_1_method_59_code
def yX1_image : MethodName := ⟨RX1, "image", "()V"⟩
abbrev cX1_copy : ByteArray := prog_1_method_58_code
def yX1_copy : MethodName := ⟨RX1, "copy", "([I)[I"⟩
abbrev cX1_restore : ByteArray := prog_1_method_60_code
def yX1_restore : MethodName := ⟨RX1, "restore", "()Z"⟩
abbrev cX1_house : ByteArray := prog_1_method_6_code
def yX1_house : MethodName := ⟨RX1, "house", "(I)I"⟩
abbrev cX1_right : ByteArray := prog_1_method_3_code
def yX1_right : MethodName := ⟨RX1, "right", "(Z)V"⟩
abbrev cX1_in : ByteArray := prog_1_method_1_code
def yX1_in : MethodName := ⟨RX1, "in", "(III)Z"⟩
abbrev cX1_count : ByteArray := prog_1_method_10_code
def yX1_count : MethodName := ⟨RX1, "count", "(I)I"⟩
abbrev cX1_found : ByteArray := prog_1_method_2_code
def yX1_found : MethodName := ⟨RX1, "found", "(Z)V"⟩
abbrev cX1_room : ByteArray := prog_1_method_15_code
def yX1_room : MethodName := ⟨RX1, "room", "(II)I"⟩
abbrev cX1_aRoom : ByteArray := prog_1_method_11_code
def yX1_aRoom : MethodName := ⟨RX1, "aRoom", "(I)V"⟩
abbrev cX1_oneOfTwo : ByteArray := prog_1_method_14_code
def yX1_oneOfTwo : MethodName := ⟨RX1, "oneOfTwo", "(I)V"⟩
abbrev cX1_lodger : ByteArray := prog_1_method_18_code
def yX1_lodger : MethodName := ⟨RX1, "lodger", "(II)I"⟩
abbrev cX1_aLodger : ByteArray := prog_1_method_12_code
def yX1_aLodger : MethodName := ⟨RX1, "aLodger", "(I)V"⟩
abbrev cX1_may : ByteArray := prog_1_method_19_code
def yX1_may : MethodName := ⟨RX1, "may", "(III)I"⟩
abbrev cX1_anHour : ByteArray := prog_1_method_13_code
def yX1_anHour : MethodName := ⟨RX1, "anHour", "(I)V"⟩
abbrev cX1_says : ByteArray := prog_1_method_21_code
def yX1_says : MethodName := ⟨RX1, "says", "(II)I"⟩
abbrev cX1_lend : ByteArray := prog_1_method_22_code
def yX1_lend : MethodName := ⟨RX1, "lend", "(III)I"⟩
abbrev cX1_does : ByteArray := prog_1_method_25_code
def yX1_does : MethodName := ⟨RX1, "does", "(II)I"⟩
abbrev cX1_sign : ByteArray := prog_1_method_27_code
def yX1_sign : MethodName := ⟨RX1, "sign", "(II)I"⟩
abbrev cX1_signAt : ByteArray := prog_1_method_26_code
def yX1_signAt : MethodName := ⟨RX1, "signAt", "(II)I"⟩
abbrev cX1_look : ByteArray := prog_1_method_28_code
def yX1_look : MethodName := ⟨RX1, "look", "(III)I"⟩
abbrev cX1_theft : ByteArray := prog_1_method_29_code
def yX1_theft : MethodName := ⟨RX1, "theft", "(II)I"⟩
abbrev cX1_see : ByteArray := prog_1_method_30_code
def yX1_see : MethodName := ⟨RX1, "see", "(III)I"⟩
abbrev cX1_inCase : ByteArray := prog_1_method_34_code
def yX1_inCase : MethodName := ⟨RX1, "inCase", "(II)I"⟩
abbrev cX1_sure : ByteArray := prog_1_method_35_code
def yX1_sure : MethodName := ⟨RX1, "sure", "(I)I"⟩
abbrev cX1_where : ByteArray := prog_1_method_36_code
def yX1_where : MethodName := ⟨RX1, "where", "(I)I"⟩
abbrev cX1_misled : ByteArray := prog_1_method_40_code
def yX1_misled : MethodName := ⟨RX1, "misled", "(III)I"⟩
abbrev cX1_liars : ByteArray := prog_1_method_39_code
def yX1_liars : MethodName := ⟨RX1, "liars", "(II)I"⟩
abbrev cX1_tale : ByteArray := prog_1_method_37_code
def yX1_tale : MethodName := ⟨RX1, "tale", "(IIII)I"⟩
abbrev cX1_canLie : ByteArray := prog_1_method_38_code
def yX1_canLie : MethodName := ⟨RX1, "canLie", "(IIIZ)Z"⟩
abbrev cX1_chance : ByteArray := prog_1_method_42_code
def yX1_chance : MethodName := ⟨RX1, "chance", "(II)I"⟩
abbrev cX1_chanceOf : ByteArray := prog_1_method_41_code
def yX1_chanceOf : MethodName := ⟨RX1, "chanceOf", "(II)I"⟩
abbrev cX1_round : ByteArray := prog_1_method_44_code
def yX1_round : MethodName := ⟨RX1, "round", "(III)I"⟩
abbrev cX1_worth : ByteArray := prog_1_method_43_code
def yX1_worth : MethodName := ⟨RX1, "worth", "(II)I"⟩
abbrev cX1_path : ByteArray := prog_1_method_45_code
def yX1_path : MethodName := ⟨RX1, "path", "(II)I"⟩
abbrev cX1_rests : ByteArray := prog_1_method_48_code
def yX1_rests : MethodName := ⟨RX1, "rests", "(III)I"⟩
abbrev cX1_isRest : ByteArray := prog_1_method_47_code
def yX1_isRest : MethodName := ⟨RX1, "isRest", "([I[I)Z"⟩
abbrev cX1_gain : ByteArray := prog_1_method_46_code
def yX1_gain : MethodName := ⟨RX1, "gain", "([II[I)I"⟩
abbrev cX1_fewest : ByteArray := prog_1_method_49_code
def yX1_fewest : MethodName := ⟨RX1, "fewest", "(II)I"⟩
abbrev cX1_lender : ByteArray := prog_1_method_50_code
def yX1_lender : MethodName := ⟨RX1, "lender", "(I)I"⟩
abbrev cX1_kinds : ByteArray := prog_1_method_53_code
def yX1_kinds : MethodName := ⟨RX1, "kinds", "(II)I"⟩
abbrev cX1_isApart : ByteArray := prog_1_method_52_code
def yX1_isApart : MethodName := ⟨RX1, "isApart", "(I)Z"⟩
abbrev cX1_words : ByteArray := prog_1_method_51_code
def yX1_words : MethodName := ⟨RX1, "words", "(I[I)I"⟩
abbrev cX1_word : ByteArray := prog_1_method_54_code
def yX1_word : MethodName := ⟨RX1, "word", "(II)I"⟩
abbrev cX1_mend : ByteArray := prog_1_method_55_code
def yX1_mend : MethodName := ⟨RX1, "mend", "(III)I"⟩
abbrev cX1_fire : ByteArray := prog_1_method_57_code
def yX1_fire : MethodName := ⟨RX1, "fire", "(IIIII)J"⟩
abbrev cX1_common : ByteArray := prog_1_method_56_code
def yX1_common : MethodName := ⟨RX1, "common", "(JJ)J"⟩
theorem q92 : (Jvm.Cond.initialized "ShoeHouse") ∈ lw_all := lw_g (lw_at lw_m1 1 rfl) rfl
theorem q121 : (Jvm.Cond.instantiable "ShoeHouse" (20 : Nat)) ∈ lw_all := lw_g (lw_at lw_m1 30 rfl) rfl
theorem q123 : (Jvm.Cond.instanceMethod ({ cls := "ShoeHouse", name := "<init>", desc := "()V" } : Jvm.MethodName)) ∈ lw_all := lw_g (lw_at lw_m1 32 rfl) rfl
theorem q124 : (Jvm.Cond.code ({ cls := "ShoeHouse", name := "<init>", desc := "()V" } : Jvm.MethodName) prog_1_method_4_code (1 : Nat) (Option.none : Option Jvm.ClassFile.FieldType)) ∈ lw_all := lw_g (lw_at lw_m1 33 rfl) rfl
theorem q125 : (Jvm.Cond.methodLink "ShoeHouse" (10 : Nat) ({ cls := "java/lang/Object", name := "<init>", desc := "()V" } : Jvm.MethodName)) ∈ lw_all := lw_g (lw_at lw_m1 34 rfl) rfl
theorem q128 : (Jvm.Cond.classLink "ShoeHouse" (13 : Nat) "ShoeHouse$House") ∈ lw_all := lw_g (lw_at lw_m1 37 rfl) rfl
theorem q130 : (Jvm.Cond.methodLinkNest "ShoeHouse" (15 : Nat) ({ cls := "ShoeHouse$House", name := "<init>", desc := "()V" } : Jvm.MethodName) "ShoeHouse") ∈ lw_tbl := lw_at lw_m1 39 rfl
theorem q161 : (Jvm.Cond.fieldLinkNest "ShoeHouse" (105 : Nat) "ShoeHouse$House" "lodgers" "Ljava/util/List;" "ShoeHouse") ∈ lw_tbl := lw_at lw_m1 70 rfl
theorem q164 : (Jvm.Cond.fieldLinkNest "ShoeHouse" (145 : Nat) "ShoeHouse$House" "goods" "[I" "ShoeHouse") ∈ lw_tbl := lw_at lw_m1 73 rfl
theorem q167 : (Jvm.Cond.fieldLinkNest "ShoeHouse" (91 : Nat) "ShoeHouse$House" "begins" "[I" "ShoeHouse") ∈ lw_tbl := lw_at lw_m1 76 rfl
theorem q170 : (Jvm.Cond.fieldLinkNest "ShoeHouse" (135 : Nat) "ShoeHouse$House" "law" "[I" "ShoeHouse") ∈ lw_tbl := lw_at lw_m1 79 rfl
theorem q174 : (Jvm.Cond.fieldLinkNest "ShoeHouse" (116 : Nat) "ShoeHouse$House" "rooms" "I" "ShoeHouse") ∈ lw_tbl := lw_at lw_m1 83 rfl
theorem q176 : (Jvm.Cond.fieldLinkNest "ShoeHouse" (119 : Nat) "ShoeHouse$House" "finders" "I" "ShoeHouse") ∈ lw_tbl := lw_at lw_m1 85 rfl
theorem q178 : (Jvm.Cond.fieldLinkNest "ShoeHouse" (122 : Nat) "ShoeHouse$House" "mays" "I" "ShoeHouse") ∈ lw_tbl := lw_at lw_m1 87 rfl
theorem q196 : (Jvm.Cond.classLink "ShoeHouse" (37 : Nat) "java/util/ArrayList") ∈ lw_all := lw_g (lw_at lw_m1 105 rfl) rfl
theorem q197 : (Jvm.Cond.methodLink "ShoeHouse" (39 : Nat) ({ cls := "java/util/ArrayList", name := "<init>", desc := "()V" } : Jvm.MethodName)) ∈ lw_all := lw_g (lw_at lw_m1 106 rfl) rfl
theorem q201 : (Jvm.Cond.fieldLink "ShoeHouse" (16 : Nat) "ShoeHouse" "house" "LShoeHouse$House;") ∈ lw_all := lw_g (lw_at lw_m1 110 rfl) rfl
theorem q203 : (Jvm.Cond.fieldLink "ShoeHouse" (22 : Nat) "ShoeHouse" "tape" "[B") ∈ lw_all := lw_g (lw_at lw_m1 112 rfl) rfl
theorem q204 : (Jvm.Cond.fieldLink "ShoeHouse" (53 : Nat) "ShoeHouse" "taped" "I") ∈ lw_all := lw_g (lw_at lw_m1 113 rfl) rfl
theorem q205 : (Jvm.Cond.fieldLink "ShoeHouse" (26 : Nat) "ShoeHouse" "faultPlace" "I") ∈ lw_all := lw_g (lw_at lw_m1 114 rfl) rfl
theorem q206 : (Jvm.Cond.fieldLink "ShoeHouse" (30 : Nat) "ShoeHouse" "refused" "[I") ∈ lw_all := lw_g (lw_at lw_m1 115 rfl) rfl
theorem q207 : (Jvm.Cond.fieldLink "ShoeHouse" (34 : Nat) "ShoeHouse" "signs" "[I") ∈ lw_all := lw_g (lw_at lw_m1 116 rfl) rfl
theorem q208 : (Jvm.Cond.fieldLink "ShoeHouse" (40 : Nat) "ShoeHouse" "loans" "Ljava/util/List;") ∈ lw_all := lw_g (lw_at lw_m1 117 rfl) rfl
theorem q210 : (Jvm.Cond.fieldLink "ShoeHouse" (44 : Nat) "ShoeHouse" "day" "[I") ∈ lw_all := lw_g (lw_at lw_m1 119 rfl) rfl
theorem q211 : (Jvm.Cond.fieldLink "ShoeHouse" (47 : Nat) "ShoeHouse" "looks" "[I") ∈ lw_all := lw_g (lw_at lw_m1 120 rfl) rfl
theorem q212 : (Jvm.Cond.fieldLink "ShoeHouse" (50 : Nat) "ShoeHouse" "seenHour" "I") ∈ lw_all := lw_g (lw_at lw_m1 121 rfl) rfl
theorem q213 : (Jvm.Cond.fieldLink "ShoeHouse" (125 : Nat) "ShoeHouse" "seen" "I") ∈ lw_all := lw_g (lw_at lw_m1 122 rfl) rfl
theorem q214 : (Jvm.Cond.fieldLink "ShoeHouse" (96 : Nat) "ShoeHouse" "pathKept" "[I") ∈ lw_all := lw_g (lw_at lw_m1 123 rfl) rfl
theorem q215 : (Jvm.Cond.fieldLink "ShoeHouse" (99 : Nat) "ShoeHouse" "lendersKept" "[I") ∈ lw_all := lw_g (lw_at lw_m1 124 rfl) rfl
theorem q216 : (Jvm.Cond.fieldLink "ShoeHouse" (259 : Nat) "ShoeHouse" "looksKept" "[Z") ∈ lw_all := lw_g (lw_at lw_m1 125 rfl) rfl
theorem q217 : (Jvm.Cond.fieldLink "ShoeHouse" (102 : Nat) "ShoeHouse" "loansThen" "Ljava/util/List;") ∈ lw_all := lw_g (lw_at lw_m1 126 rfl) rfl
theorem q218 : (Jvm.Cond.fieldLink "ShoeHouse" (322 : Nat) "ShoeHouse" "dayThen" "[I") ∈ lw_all := lw_g (lw_at lw_m1 127 rfl) rfl
theorem q219 : (Jvm.Cond.fieldLink "ShoeHouse" (325 : Nat) "ShoeHouse" "looksThen" "[I") ∈ lw_all := lw_g (lw_at lw_m1 128 rfl) rfl
theorem q220 : (Jvm.Cond.fieldLink "ShoeHouse" (328 : Nat) "ShoeHouse" "signsThen" "[I") ∈ lw_all := lw_g (lw_at lw_m1 129 rfl) rfl
theorem q221 : (Jvm.Cond.fieldLink "ShoeHouse" (331 : Nat) "ShoeHouse" "seenHourThen" "I") ∈ lw_all := lw_g (lw_at lw_m1 130 rfl) rfl
theorem q222 : (Jvm.Cond.fieldLink "ShoeHouse" (334 : Nat) "ShoeHouse" "seenThen" "I") ∈ lw_all := lw_g (lw_at lw_m1 131 rfl) rfl
theorem q223 : (Jvm.Cond.lays "ShoeHouse" "ShoeHouse" "house" "LShoeHouse$House;") ∈ lw_all := lw_g (lw_at lw_m1 132 rfl) rfl
theorem q224 : (Jvm.Cond.soleField "ShoeHouse" "house") ∈ lw_all := lw_g (lw_at lw_m1 133 rfl) rfl
theorem q225 : (Jvm.Cond.laysFinal "ShoeHouse" "ShoeHouse" "tape" "[B") ∈ lw_all := lw_g (lw_at lw_m1 134 rfl) rfl
theorem q226 : (Jvm.Cond.soleField "ShoeHouse" "tape") ∈ lw_all := lw_g (lw_at lw_m1 135 rfl) rfl
theorem q227 : (Jvm.Cond.lays "ShoeHouse" "ShoeHouse" "taped" "I") ∈ lw_all := lw_g (lw_at lw_m1 136 rfl) rfl
theorem q228 : (Jvm.Cond.soleField "ShoeHouse" "taped") ∈ lw_all := lw_g (lw_at lw_m1 137 rfl) rfl
theorem q229 : (Jvm.Cond.lays "ShoeHouse" "ShoeHouse" "faultPlace" "I") ∈ lw_all := lw_g (lw_at lw_m1 138 rfl) rfl
theorem q230 : (Jvm.Cond.soleField "ShoeHouse" "faultPlace") ∈ lw_all := lw_g (lw_at lw_m1 139 rfl) rfl
theorem q231 : (Jvm.Cond.laysFinal "ShoeHouse" "ShoeHouse" "refused" "[I") ∈ lw_all := lw_g (lw_at lw_m1 140 rfl) rfl
theorem q232 : (Jvm.Cond.soleField "ShoeHouse" "refused") ∈ lw_all := lw_g (lw_at lw_m1 141 rfl) rfl
theorem q233 : (Jvm.Cond.laysFinal "ShoeHouse" "ShoeHouse" "signs" "[I") ∈ lw_all := lw_g (lw_at lw_m1 142 rfl) rfl
theorem q234 : (Jvm.Cond.soleField "ShoeHouse" "signs") ∈ lw_all := lw_g (lw_at lw_m1 143 rfl) rfl
theorem q235 : (Jvm.Cond.lays "ShoeHouse" "ShoeHouse" "loans" "Ljava/util/List;") ∈ lw_all := lw_g (lw_at lw_m1 144 rfl) rfl
theorem q236 : (Jvm.Cond.soleField "ShoeHouse" "loans") ∈ lw_all := lw_g (lw_at lw_m1 145 rfl) rfl
theorem q237 : (Jvm.Cond.lays "ShoeHouse" "ShoeHouse" "day" "[I") ∈ lw_all := lw_g (lw_at lw_m1 146 rfl) rfl
theorem q238 : (Jvm.Cond.soleField "ShoeHouse" "day") ∈ lw_all := lw_g (lw_at lw_m1 147 rfl) rfl
theorem q239 : (Jvm.Cond.lays "ShoeHouse" "ShoeHouse" "looks" "[I") ∈ lw_all := lw_g (lw_at lw_m1 148 rfl) rfl
theorem q240 : (Jvm.Cond.soleField "ShoeHouse" "looks") ∈ lw_all := lw_g (lw_at lw_m1 149 rfl) rfl
theorem q241 : (Jvm.Cond.lays "ShoeHouse" "ShoeHouse" "seenHour" "I") ∈ lw_all := lw_g (lw_at lw_m1 150 rfl) rfl
theorem q242 : (Jvm.Cond.soleField "ShoeHouse" "seenHour") ∈ lw_all := lw_g (lw_at lw_m1 151 rfl) rfl
theorem q243 : (Jvm.Cond.lays "ShoeHouse" "ShoeHouse" "seen" "I") ∈ lw_all := lw_g (lw_at lw_m1 152 rfl) rfl
theorem q244 : (Jvm.Cond.soleField "ShoeHouse" "seen") ∈ lw_all := lw_g (lw_at lw_m1 153 rfl) rfl
theorem q245 : (Jvm.Cond.lays "ShoeHouse" "ShoeHouse" "pathKept" "[I") ∈ lw_all := lw_g (lw_at lw_m1 154 rfl) rfl
theorem q246 : (Jvm.Cond.soleField "ShoeHouse" "pathKept") ∈ lw_all := lw_g (lw_at lw_m1 155 rfl) rfl
theorem q247 : (Jvm.Cond.lays "ShoeHouse" "ShoeHouse" "lendersKept" "[I") ∈ lw_all := lw_g (lw_at lw_m1 156 rfl) rfl
theorem q248 : (Jvm.Cond.soleField "ShoeHouse" "lendersKept") ∈ lw_all := lw_g (lw_at lw_m1 157 rfl) rfl
theorem q249 : (Jvm.Cond.lays "ShoeHouse" "ShoeHouse" "looksKept" "[Z") ∈ lw_all := lw_g (lw_at lw_m1 158 rfl) rfl
theorem q250 : (Jvm.Cond.soleField "ShoeHouse" "looksKept") ∈ lw_all := lw_g (lw_at lw_m1 159 rfl) rfl
theorem q251 : (Jvm.Cond.lays "ShoeHouse" "ShoeHouse" "loansThen" "Ljava/util/List;") ∈ lw_all := lw_g (lw_at lw_m1 160 rfl) rfl
theorem q252 : (Jvm.Cond.soleField "ShoeHouse" "loansThen") ∈ lw_all := lw_g (lw_at lw_m1 161 rfl) rfl
theorem q253 : (Jvm.Cond.lays "ShoeHouse" "ShoeHouse" "dayThen" "[I") ∈ lw_all := lw_g (lw_at lw_m1 162 rfl) rfl
theorem q254 : (Jvm.Cond.soleField "ShoeHouse" "dayThen") ∈ lw_all := lw_g (lw_at lw_m1 163 rfl) rfl
theorem q255 : (Jvm.Cond.lays "ShoeHouse" "ShoeHouse" "looksThen" "[I") ∈ lw_all := lw_g (lw_at lw_m1 164 rfl) rfl
theorem q256 : (Jvm.Cond.soleField "ShoeHouse" "looksThen") ∈ lw_all := lw_g (lw_at lw_m1 165 rfl) rfl
theorem q257 : (Jvm.Cond.lays "ShoeHouse" "ShoeHouse" "signsThen" "[I") ∈ lw_all := lw_g (lw_at lw_m1 166 rfl) rfl
theorem q258 : (Jvm.Cond.soleField "ShoeHouse" "signsThen") ∈ lw_all := lw_g (lw_at lw_m1 167 rfl) rfl
theorem q259 : (Jvm.Cond.lays "ShoeHouse" "ShoeHouse" "seenHourThen" "I") ∈ lw_all := lw_g (lw_at lw_m1 168 rfl) rfl
theorem q260 : (Jvm.Cond.soleField "ShoeHouse" "seenHourThen") ∈ lw_all := lw_g (lw_at lw_m1 169 rfl) rfl
theorem q261 : (Jvm.Cond.lays "ShoeHouse" "ShoeHouse" "seenThen" "I") ∈ lw_all := lw_g (lw_at lw_m1 170 rfl) rfl
theorem q262 : (Jvm.Cond.soleField "ShoeHouse" "seenThen") ∈ lw_all := lw_g (lw_at lw_m1 171 rfl) rfl
theorem q263 : (Jvm.Cond.superclass "ShoeHouse" "java/lang/Object") ∈ lw_all := lw_g (lw_at lw_m1 172 rfl) rfl
theorem q266 : (Jvm.Cond.instanceMethod ({ cls := "ShoeHouse", name := "feed", desc := "(IIIII)I" } : Jvm.MethodName)) ∈ lw_all := lw_g (lw_at lw_m1 175 rfl) rfl
theorem q267 : (Jvm.Cond.selects "ShoeHouse" ({ cls := "ShoeHouse", name := "feed", desc := "(IIIII)I" } : Jvm.MethodName) ({ cls := "ShoeHouse", name := "feed", desc := "(IIIII)I" } : Jvm.MethodName)) ∈ lw_all := lw_g (lw_at lw_m1 176 rfl) rfl
theorem q268 : (Jvm.Cond.code ({ cls := "ShoeHouse", name := "feed", desc := "(IIIII)I" } : Jvm.MethodName) prog_1_method_5_code (8 : Nat) (Option.some Jvm.ClassFile.FieldType.int)) ∈ lw_all := lw_g (lw_at lw_m1 177 rfl) rfl
theorem q270 : (Jvm.Cond.instanceMethod ({ cls := "ShoeHouse", name := "fault", desc := "()I" } : Jvm.MethodName)) ∈ lw_all := lw_g (lw_at lw_m1 179 rfl) rfl
theorem q271 : (Jvm.Cond.selects "ShoeHouse" ({ cls := "ShoeHouse", name := "fault", desc := "()I" } : Jvm.MethodName) ({ cls := "ShoeHouse", name := "fault", desc := "()I" } : Jvm.MethodName)) ∈ lw_all := lw_g (lw_at lw_m1 180 rfl) rfl
theorem q272 : (Jvm.Cond.code ({ cls := "ShoeHouse", name := "fault", desc := "()I" } : Jvm.MethodName) prog_1_method_7_code (1 : Nat) (Option.some Jvm.ClassFile.FieldType.int)) ∈ lw_all := lw_g (lw_at lw_m1 181 rfl) rfl
theorem q274 : (Jvm.Cond.instanceMethod ({ cls := "ShoeHouse", name := "back", desc := "()I" } : Jvm.MethodName)) ∈ lw_all := lw_g (lw_at lw_m1 183 rfl) rfl
theorem q275 : (Jvm.Cond.selects "ShoeHouse" ({ cls := "ShoeHouse", name := "back", desc := "()I" } : Jvm.MethodName) ({ cls := "ShoeHouse", name := "back", desc := "()I" } : Jvm.MethodName)) ∈ lw_all := lw_g (lw_at lw_m1 184 rfl) rfl
theorem q276 : (Jvm.Cond.code ({ cls := "ShoeHouse", name := "back", desc := "()I" } : Jvm.MethodName) prog_1_method_23_code (1 : Nat) (Option.some Jvm.ClassFile.FieldType.int)) ∈ lw_all := lw_g (lw_at lw_m1 185 rfl) rfl
theorem q277 : (Jvm.Cond.interfaceEntry "ShoeHouse" (194 : Nat)) ∈ lw_tbl := lw_at lw_m1 186 rfl
theorem q278 : (Jvm.Cond.methodLink "ShoeHouse" (194 : Nat) ({ cls := "java/util/List", name := "isEmpty", desc := "()Z" } : Jvm.MethodName)) ∈ lw_all := lw_g (lw_at lw_m1 187 rfl) rfl
theorem q287 : (Jvm.Cond.interfaceEntry "ShoeHouse" (107 : Nat)) ∈ lw_tbl := lw_at lw_m1 196 rfl
theorem q288 : (Jvm.Cond.methodLink "ShoeHouse" (107 : Nat) ({ cls := "java/util/List", name := "size", desc := "()I" } : Jvm.MethodName)) ∈ lw_all := lw_g (lw_at lw_m1 197 rfl) rfl
theorem q296 : (Jvm.Cond.interfaceEntry "ShoeHouse" (198 : Nat)) ∈ lw_tbl := lw_at lw_m1 205 rfl
theorem q297 : (Jvm.Cond.methodLink "ShoeHouse" (198 : Nat) ({ cls := "java/util/List", name := "remove", desc := "(I)Ljava/lang/Object;" } : Jvm.MethodName)) ∈ lw_all := lw_g (lw_at lw_m1 206 rfl) rfl
theorem q319 : (Jvm.Cond.instanceMethod ({ cls := "ShoeHouse", name := "draw", desc := "(I)V" } : Jvm.MethodName)) ∈ lw_all := lw_g (lw_at lw_m1 228 rfl) rfl
theorem q320 : (Jvm.Cond.selects "ShoeHouse" ({ cls := "ShoeHouse", name := "draw", desc := "(I)V" } : Jvm.MethodName) ({ cls := "ShoeHouse", name := "draw", desc := "(I)V" } : Jvm.MethodName)) ∈ lw_all := lw_g (lw_at lw_m1 229 rfl) rfl
theorem q321 : (Jvm.Cond.code ({ cls := "ShoeHouse", name := "draw", desc := "(I)V" } : Jvm.MethodName) prog_1_method_24_code (7 : Nat) (Option.none : Option Jvm.ClassFile.FieldType)) ∈ lw_all := lw_g (lw_at lw_m1 230 rfl) rfl
theorem q322 : (Jvm.Cond.methodLink "ShoeHouse" (77 : Nat) ({ cls := "ShoeHouse", name := "lodgers", desc := "()I" } : Jvm.MethodName)) ∈ lw_all := lw_g (lw_at lw_m1 231 rfl) rfl
theorem q323 : (Jvm.Cond.privateMethod ({ cls := "ShoeHouse", name := "lodgers", desc := "()I" } : Jvm.MethodName)) ∈ lw_tbl := lw_at lw_m1 232 rfl
theorem q324 : (Jvm.Cond.instanceMethod ({ cls := "ShoeHouse", name := "lodgers", desc := "()I" } : Jvm.MethodName)) ∈ lw_all := lw_g (lw_at lw_m1 233 rfl) rfl
theorem q325 : (Jvm.Cond.code ({ cls := "ShoeHouse", name := "lodgers", desc := "()I" } : Jvm.MethodName) prog_1_method_8_code (1 : Nat) (Option.some Jvm.ClassFile.FieldType.int)) ∈ lw_all := lw_g (lw_at lw_m1 234 rfl) rfl
theorem q326 : (Jvm.Cond.methodLink "ShoeHouse" (81 : Nat) ({ cls := "ShoeHouse", name := "of", desc := "(I)LShoeHouse$Lodger;" } : Jvm.MethodName)) ∈ lw_all := lw_g (lw_at lw_m1 235 rfl) rfl
theorem q327 : (Jvm.Cond.privateMethod ({ cls := "ShoeHouse", name := "of", desc := "(I)LShoeHouse$Lodger;" } : Jvm.MethodName)) ∈ lw_tbl := lw_at lw_m1 236 rfl
theorem q328 : (Jvm.Cond.instanceMethod ({ cls := "ShoeHouse", name := "of", desc := "(I)LShoeHouse$Lodger;" } : Jvm.MethodName)) ∈ lw_all := lw_g (lw_at lw_m1 237 rfl) rfl
theorem q329 : (Jvm.Cond.code ({ cls := "ShoeHouse", name := "of", desc := "(I)LShoeHouse$Lodger;" } : Jvm.MethodName) prog_1_method_9_code (2 : Nat) (Option.some (Jvm.ClassFile.FieldType.object "ShoeHouse$Lodger"))) ∈ lw_all := lw_g (lw_at lw_m1 238 rfl) rfl
theorem q330 : (Jvm.Cond.interfaceEntry "ShoeHouse" (112 : Nat)) ∈ lw_tbl := lw_at lw_m1 239 rfl
theorem q331 : (Jvm.Cond.methodLink "ShoeHouse" (112 : Nat) ({ cls := "java/util/List", name := "get", desc := "(I)Ljava/lang/Object;" } : Jvm.MethodName)) ∈ lw_all := lw_g (lw_at lw_m2 0 rfl) rfl
theorem q343 : (Jvm.Cond.classLink "ShoeHouse" (86 : Nat) "ShoeHouse$Lodger") ∈ lw_all := lw_g (lw_at lw_m2 12 rfl) rfl
theorem q344 : (Jvm.Cond.methodLink "ShoeHouse" (85 : Nat) ({ cls := "ShoeHouse$Lodger", name := "all", desc := "(I)[I" } : Jvm.MethodName)) ∈ lw_all := lw_g (lw_at lw_m2 13 rfl) rfl
theorem q357 : (Jvm.Cond.constant "ShoeHouse" (201 : Nat) (1103515245 : Int32)) ∈ lw_all := lw_g (lw_at lw_m2 26 rfl) rfl
theorem q359 : (Jvm.Cond.instanceMethod ({ cls := "ShoeHouse", name := "forget", desc := "()I" } : Jvm.MethodName)) ∈ lw_all := lw_g (lw_at lw_m2 28 rfl) rfl
theorem q360 : (Jvm.Cond.selects "ShoeHouse" ({ cls := "ShoeHouse", name := "forget", desc := "()I" } : Jvm.MethodName) ({ cls := "ShoeHouse", name := "forget", desc := "()I" } : Jvm.MethodName)) ∈ lw_all := lw_g (lw_at lw_m2 29 rfl) rfl
theorem q361 : (Jvm.Cond.code ({ cls := "ShoeHouse", name := "forget", desc := "()I" } : Jvm.MethodName) prog_1_method_31_code (2 : Nat) (Option.some Jvm.ClassFile.FieldType.int)) ∈ lw_all := lw_g (lw_at lw_m2 30 rfl) rfl
theorem q362 : (Jvm.Cond.methodLink "ShoeHouse" (205 : Nat) ({ cls := "java/lang/Integer", name := "bitCount", desc := "(I)I" } : Jvm.MethodName)) ∈ lw_all := lw_g (lw_at lw_m2 31 rfl) rfl
theorem q364 : (Jvm.Cond.instanceMethod ({ cls := "ShoeHouse", name := "cases", desc := "()I" } : Jvm.MethodName)) ∈ lw_all := lw_g (lw_at lw_m2 33 rfl) rfl
theorem q365 : (Jvm.Cond.selects "ShoeHouse" ({ cls := "ShoeHouse", name := "cases", desc := "()I" } : Jvm.MethodName) ({ cls := "ShoeHouse", name := "cases", desc := "()I" } : Jvm.MethodName)) ∈ lw_all := lw_g (lw_at lw_m2 34 rfl) rfl
theorem q366 : (Jvm.Cond.code ({ cls := "ShoeHouse", name := "cases", desc := "()I" } : Jvm.MethodName) prog_1_method_33_code (1 : Nat) (Option.some Jvm.ClassFile.FieldType.int)) ∈ lw_all := lw_g (lw_at lw_m2 35 rfl) rfl
theorem q367 : (Jvm.Cond.methodLink "ShoeHouse" (220 : Nat) ({ cls := "ShoeHouse", name := "now", desc := "()LShoeHouse$Cases;" } : Jvm.MethodName)) ∈ lw_all := lw_g (lw_at lw_m2 36 rfl) rfl
theorem q368 : (Jvm.Cond.privateMethod ({ cls := "ShoeHouse", name := "now", desc := "()LShoeHouse$Cases;" } : Jvm.MethodName)) ∈ lw_tbl := lw_at lw_m2 37 rfl
theorem q369 : (Jvm.Cond.instanceMethod ({ cls := "ShoeHouse", name := "now", desc := "()LShoeHouse$Cases;" } : Jvm.MethodName)) ∈ lw_all := lw_g (lw_at lw_m2 38 rfl) rfl
theorem q370 : (Jvm.Cond.code ({ cls := "ShoeHouse", name := "now", desc := "()LShoeHouse$Cases;" } : Jvm.MethodName) prog_1_method_32_code (1 : Nat) (Option.some (Jvm.ClassFile.FieldType.object "ShoeHouse$Cases"))) ∈ lw_all := lw_g (lw_at lw_m2 39 rfl) rfl
theorem q371 : (Jvm.Cond.classLink "ShoeHouse" (210 : Nat) "ShoeHouse$Cases") ∈ lw_all := lw_g (lw_at lw_m2 40 rfl) rfl
theorem q373 : (Jvm.Cond.methodLink "ShoeHouse" (212 : Nat) ({ cls := "java/lang/Math", name := "max", desc := "(II)I" } : Jvm.MethodName)) ∈ lw_all := lw_g (lw_at lw_m2 42 rfl) rfl
theorem q374 : (Jvm.Cond.methodLink "ShoeHouse" (217 : Nat) ({ cls := "ShoeHouse$Cases", name := "<init>", desc := "(LShoeHouse;II[I)V" } : Jvm.MethodName)) ∈ lw_all := lw_g (lw_at lw_m2 43 rfl) rfl
theorem q384 : (Jvm.Cond.privateMethod ({ cls := "ShoeHouse", name := "signFor", desc := "(II)I" } : Jvm.MethodName)) ∈ lw_tbl := lw_at lw_m2 53 rfl
theorem q385 : (Jvm.Cond.instanceMethod ({ cls := "ShoeHouse", name := "signFor", desc := "(II)I" } : Jvm.MethodName)) ∈ lw_all := lw_g (lw_at lw_m2 54 rfl) rfl
theorem q386 : (Jvm.Cond.code ({ cls := "ShoeHouse", name := "signFor", desc := "(II)I" } : Jvm.MethodName) prog_1_method_20_code (3 : Nat) (Option.some Jvm.ClassFile.FieldType.int)) ∈ lw_all := lw_g (lw_at lw_m2 55 rfl) rfl
theorem q387 : (Jvm.Cond.methodLink "ShoeHouse" (178 : Nat) ({ cls := "ShoeHouse$House", name := "lawFor", desc := "(I)I" } : Jvm.MethodName)) ∈ lw_all := lw_g (lw_at lw_m2 56 rfl) rfl
theorem q391 : (Jvm.Cond.methodLink "ShoeHouse" (181 : Nat) ({ cls := "ShoeHouse", name := "feet", desc := "(I)I" } : Jvm.MethodName)) ∈ lw_all := lw_g (lw_at lw_m2 60 rfl) rfl
theorem q392 : (Jvm.Cond.privateMethod ({ cls := "ShoeHouse", name := "feet", desc := "(I)I" } : Jvm.MethodName)) ∈ lw_tbl := lw_at lw_m2 61 rfl
theorem q393 : (Jvm.Cond.instanceMethod ({ cls := "ShoeHouse", name := "feet", desc := "(I)I" } : Jvm.MethodName)) ∈ lw_all := lw_g (lw_at lw_m2 62 rfl) rfl
theorem q394 : (Jvm.Cond.code ({ cls := "ShoeHouse", name := "feet", desc := "(I)I" } : Jvm.MethodName) prog_1_method_17_code (2 : Nat) (Option.some Jvm.ClassFile.FieldType.int)) ∈ lw_all := lw_g (lw_at lw_m2 63 rfl) rfl
theorem q395 : (Jvm.Cond.methodLink "ShoeHouse" (166 : Nat) ({ cls := "ShoeHouse", name := "shoes", desc := "(II)I" } : Jvm.MethodName)) ∈ lw_all := lw_g (lw_at lw_m2 64 rfl) rfl
theorem q396 : (Jvm.Cond.privateMethod ({ cls := "ShoeHouse", name := "shoes", desc := "(II)I" } : Jvm.MethodName)) ∈ lw_tbl := lw_at lw_m2 65 rfl
theorem q397 : (Jvm.Cond.instanceMethod ({ cls := "ShoeHouse", name := "shoes", desc := "(II)I" } : Jvm.MethodName)) ∈ lw_all := lw_g (lw_at lw_m2 66 rfl) rfl
theorem q398 : (Jvm.Cond.code ({ cls := "ShoeHouse", name := "shoes", desc := "(II)I" } : Jvm.MethodName) prog_1_method_16_code (6 : Nat) (Option.some Jvm.ClassFile.FieldType.int)) ∈ lw_all := lw_g (lw_at lw_m2 67 rfl) rfl
theorem q399 : (Jvm.Cond.classLink "ShoeHouse" (155 : Nat) "ShoeHouse$Loan") ∈ lw_all := lw_g (lw_at lw_m2 68 rfl) rfl
theorem q410 : (Jvm.Cond.fieldLinkNest "ShoeHouse" (233 : Nat) "ShoeHouse$Cases" "may" "[[I" "ShoeHouse") ∈ lw_tbl := lw_at lw_m2 79 rfl
theorem q412 : (Jvm.Cond.fieldLinkNest "ShoeHouse" (224 : Nat) "ShoeHouse$Cases" "many" "I" "ShoeHouse") ∈ lw_tbl := lw_at lw_m2 81 rfl
theorem q422 : (Jvm.Cond.instanceMethod ({ cls := "ShoeHouse", name := "image", desc := "()V" } : Jvm.MethodName)) ∈ lw_all := lw_g (lw_at lw_m2 91 rfl) rfl
theorem q423 : (Jvm.Cond.selects "ShoeHouse" ({ cls := "ShoeHouse", name := "image", desc := "()V" } : Jvm.MethodName) ({ cls := "ShoeHouse", name := "image", desc := "()V" } : Jvm.MethodName)) ∈ lw_all := lw_g (lw_at lw_m2 92 rfl) rfl
theorem q424 : (Jvm.Cond.code ({ cls := "ShoeHouse", name := "image", desc := "()V" } : Jvm.MethodName) prog_1_method_59_code (1 : Nat) (Option.none : Option Jvm.ClassFile.FieldType)) ∈ lw_all := lw_g (lw_at lw_m2 93 rfl) rfl
theorem q425 : (Jvm.Cond.methodLink "ShoeHouse" (315 : Nat) ({ cls := "java/util/ArrayList", name := "<init>", desc := "(Ljava/util/Collection;)V" } : Jvm.MethodName)) ∈ lw_all := lw_g (lw_at lw_m2 94 rfl) rfl
theorem q444 : (Jvm.Cond.selects "ShoeHouse" ({ cls := "java/lang/Object", name := "getClass", desc := "()Ljava/lang/Class;" } : Jvm.MethodName) ({ cls := "java/lang/Object", name := "getClass", desc := "()Ljava/lang/Class;" } : Jvm.MethodName)) ∈ lw_all := lw_g (lw_at lw_m2 113 rfl) rfl
theorem q479 : (Jvm.Cond.methodLink "ShoeHouse" (318 : Nat) ({ cls := "ShoeHouse", name := "copy", desc := "([I)[I" } : Jvm.MethodName)) ∈ lw_all := lw_g (lw_at lw_m2 148 rfl) rfl
theorem q480 : (Jvm.Cond.static ({ cls := "ShoeHouse", name := "copy", desc := "([I)[I" } : Jvm.MethodName)) ∈ lw_all := lw_g (lw_at lw_m2 149 rfl) rfl
theorem q481 : (Jvm.Cond.code ({ cls := "ShoeHouse", name := "copy", desc := "([I)[I" } : Jvm.MethodName) prog_1_method_58_code (3 : Nat) (Option.some (Jvm.ClassFile.FieldType.array Jvm.ClassFile.FieldType.int))) ∈ lw_all := lw_g (lw_at lw_m2 150 rfl) rfl
theorem q483 : (Jvm.Cond.instanceMethod ({ cls := "ShoeHouse", name := "restore", desc := "()Z" } : Jvm.MethodName)) ∈ lw_all := lw_g (lw_at lw_m2 152 rfl) rfl
theorem q484 : (Jvm.Cond.selects "ShoeHouse" ({ cls := "ShoeHouse", name := "restore", desc := "()Z" } : Jvm.MethodName) ({ cls := "ShoeHouse", name := "restore", desc := "()Z" } : Jvm.MethodName)) ∈ lw_all := lw_g (lw_at lw_m2 153 rfl) rfl
theorem q485 : (Jvm.Cond.code ({ cls := "ShoeHouse", name := "restore", desc := "()Z" } : Jvm.MethodName) prog_1_method_60_code (2 : Nat) (Option.some Jvm.ClassFile.FieldType.boolean)) ∈ lw_all := lw_g (lw_at lw_m2 154 rfl) rfl
theorem q491 : (Jvm.Cond.instanceMethod ({ cls := "ShoeHouse", name := "house", desc := "(I)I" } : Jvm.MethodName)) ∈ lw_all := lw_g (lw_at lw_m2 160 rfl) rfl
theorem q492 : (Jvm.Cond.selects "ShoeHouse" ({ cls := "ShoeHouse", name := "house", desc := "(I)I" } : Jvm.MethodName) ({ cls := "ShoeHouse", name := "house", desc := "(I)I" } : Jvm.MethodName)) ∈ lw_all := lw_g (lw_at lw_m2 161 rfl) rfl
theorem q493 : (Jvm.Cond.codeWith ({ cls := "ShoeHouse", name := "house", desc := "(I)I" } : Jvm.MethodName) prog_1_method_6_code (5 : Nat) (Option.some Jvm.ClassFile.FieldType.int) [((40 : Nat), (48 : Nat), (51 : Nat), (69 : Nat))]) ∈ lw_all := lw_g (lw_at lw_m2 162 rfl) rfl
theorem q494 : (Jvm.Cond.classLink "ShoeHouse" (69 : Nat) "ShoeHouse$Wrong") ∈ lw_all := lw_g (lw_at lw_m2 163 rfl) rfl
theorem q495 : (Jvm.Cond.methodLink "ShoeHouse" (56 : Nat) ({ cls := "ShoeHouse", name := "right", desc := "(Z)V" } : Jvm.MethodName)) ∈ lw_all := lw_g (lw_at lw_m2 164 rfl) rfl
theorem q496 : (Jvm.Cond.static ({ cls := "ShoeHouse", name := "right", desc := "(Z)V" } : Jvm.MethodName)) ∈ lw_all := lw_g (lw_at lw_m2 165 rfl) rfl
theorem q497 : (Jvm.Cond.code ({ cls := "ShoeHouse", name := "right", desc := "(Z)V" } : Jvm.MethodName) prog_1_method_3_code (1 : Nat) (Option.none : Option Jvm.ClassFile.FieldType)) ∈ lw_all := lw_g (lw_at lw_m2 166 rfl) rfl
theorem q498 : (Jvm.Cond.classLink "ShoeHouse" (7 : Nat) "java/lang/IllegalArgumentException") ∈ lw_all := lw_g (lw_at lw_m2 167 rfl) rfl
theorem q539 : (Jvm.Cond.methodLink "ShoeHouse" (9 : Nat) ({ cls := "java/lang/IllegalArgumentException", name := "<init>", desc := "()V" } : Jvm.MethodName)) ∈ lw_all := lw_g (lw_at lw_m2 208 rfl) rfl
theorem q562 : (Jvm.Cond.classLink "ShoeHouse" (60 : Nat) "ShoeHouse$Reader") ∈ lw_all := lw_g (lw_at lw_m2 231 rfl) rfl
theorem q564 : (Jvm.Cond.methodLink "ShoeHouse" (62 : Nat) ({ cls := "ShoeHouse$Reader", name := "<init>", desc := "(LShoeHouse;I)V" } : Jvm.MethodName)) ∈ lw_all := lw_g (lw_at lw_m2 233 rfl) rfl
theorem q575 : (Jvm.Cond.fieldLinkNest "ShoeHouse" (71 : Nat) "ShoeHouse$Reader" "begins" "I" "ShoeHouse") ∈ lw_tbl := lw_at lw_m3 4 rfl
theorem q599 : (Jvm.Cond.methodLink "ShoeHouse" (65 : Nat) ({ cls := "ShoeHouse$Reader", name := "read", desc := "()LShoeHouse$House;" } : Jvm.MethodName)) ∈ lw_all := lw_g (lw_at lw_m3 28 rfl) rfl
theorem q616 : (Jvm.Cond.static ({ cls := "ShoeHouse", name := "in", desc := "(III)Z" } : Jvm.MethodName)) ∈ lw_all := lw_g (lw_at lw_m3 45 rfl) rfl
theorem q617 : (Jvm.Cond.code ({ cls := "ShoeHouse", name := "in", desc := "(III)Z" } : Jvm.MethodName) prog_1_method_1_code (3 : Nat) (Option.some Jvm.ClassFile.FieldType.boolean)) ∈ lw_all := lw_g (lw_at lw_m3 46 rfl) rfl
theorem q701 : (Jvm.Cond.fieldLinkNest "ShoeHouse" (74 : Nat) "ShoeHouse$Wrong" "kind" "I" "ShoeHouse") ∈ lw_tbl := lw_at lw_m3 130 rfl
theorem q734 : (Jvm.Cond.fieldLinkNest "ShoeHouse" (172 : Nat) "ShoeHouse$Lodger" "room" "I" "ShoeHouse") ∈ lw_tbl := lw_at lw_m3 163 rfl
theorem q736 : (Jvm.Cond.fieldLinkNest "ShoeHouse" (152 : Nat) "ShoeHouse$Lodger" "shoes" "[I" "ShoeHouse") ∈ lw_tbl := lw_at lw_m3 165 rfl
theorem q809 : (Jvm.Cond.methodLink "ShoeHouse" (93 : Nat) ({ cls := "ShoeHouse", name := "forget", desc := "()I" } : Jvm.MethodName)) ∈ lw_all := lw_g (lw_at lw_m3 238 rfl) rfl
theorem q815 : (Jvm.Cond.instanceMethod ({ cls := "ShoeHouse", name := "count", desc := "(I)I" } : Jvm.MethodName)) ∈ lw_all := lw_g (lw_at lw_m4 4 rfl) rfl
theorem q816 : (Jvm.Cond.selects "ShoeHouse" ({ cls := "ShoeHouse", name := "count", desc := "(I)I" } : Jvm.MethodName) ({ cls := "ShoeHouse", name := "count", desc := "(I)I" } : Jvm.MethodName)) ∈ lw_all := lw_g (lw_at lw_m4 5 rfl) rfl
theorem q817 : (Jvm.Cond.code ({ cls := "ShoeHouse", name := "count", desc := "(I)I" } : Jvm.MethodName) prog_1_method_10_code (2 : Nat) (Option.some Jvm.ClassFile.FieldType.int)) ∈ lw_all := lw_g (lw_at lw_m4 6 rfl) rfl
theorem q818 : (Jvm.Cond.methodLink "ShoeHouse" (128 : Nat) ({ cls := "ShoeHouse", name := "in", desc := "(III)Z" } : Jvm.MethodName)) ∈ lw_all := lw_g (lw_at lw_m4 7 rfl) rfl
theorem q819 : (Jvm.Cond.methodLink "ShoeHouse" (132 : Nat) ({ cls := "ShoeHouse", name := "found", desc := "(Z)V" } : Jvm.MethodName)) ∈ lw_all := lw_g (lw_at lw_m4 8 rfl) rfl
theorem q820 : (Jvm.Cond.static ({ cls := "ShoeHouse", name := "found", desc := "(Z)V" } : Jvm.MethodName)) ∈ lw_all := lw_g (lw_at lw_m4 9 rfl) rfl
theorem q821 : (Jvm.Cond.code ({ cls := "ShoeHouse", name := "found", desc := "(Z)V" } : Jvm.MethodName) prog_1_method_2_code (1 : Nat) (Option.none : Option Jvm.ClassFile.FieldType)) ∈ lw_all := lw_g (lw_at lw_m4 10 rfl) rfl
theorem q822 : (Jvm.Cond.classLink "ShoeHouse" (1 : Nat) "java/util/NoSuchElementException") ∈ lw_all := lw_g (lw_at lw_m4 11 rfl) rfl
theorem q831 : (Jvm.Cond.methodLink "ShoeHouse" (3 : Nat) ({ cls := "java/util/NoSuchElementException", name := "<init>", desc := "()V" } : Jvm.MethodName)) ∈ lw_all := lw_g (lw_at lw_m4 20 rfl) rfl
theorem q841 : (Jvm.Cond.instanceMethod ({ cls := "ShoeHouse", name := "room", desc := "(II)I" } : Jvm.MethodName)) ∈ lw_all := lw_g (lw_at lw_m4 30 rfl) rfl
theorem q842 : (Jvm.Cond.selects "ShoeHouse" ({ cls := "ShoeHouse", name := "room", desc := "(II)I" } : Jvm.MethodName) ({ cls := "ShoeHouse", name := "room", desc := "(II)I" } : Jvm.MethodName)) ∈ lw_all := lw_g (lw_at lw_m4 31 rfl) rfl
theorem q843 : (Jvm.Cond.code ({ cls := "ShoeHouse", name := "room", desc := "(II)I" } : Jvm.MethodName) prog_1_method_15_code (3 : Nat) (Option.some Jvm.ClassFile.FieldType.int)) ∈ lw_all := lw_g (lw_at lw_m4 32 rfl) rfl
theorem q844 : (Jvm.Cond.methodLink "ShoeHouse" (138 : Nat) ({ cls := "ShoeHouse", name := "aRoom", desc := "(I)V" } : Jvm.MethodName)) ∈ lw_all := lw_g (lw_at lw_m4 33 rfl) rfl
theorem q845 : (Jvm.Cond.privateMethod ({ cls := "ShoeHouse", name := "aRoom", desc := "(I)V" } : Jvm.MethodName)) ∈ lw_tbl := lw_at lw_m4 34 rfl
theorem q846 : (Jvm.Cond.instanceMethod ({ cls := "ShoeHouse", name := "aRoom", desc := "(I)V" } : Jvm.MethodName)) ∈ lw_all := lw_g (lw_at lw_m4 35 rfl) rfl
theorem q847 : (Jvm.Cond.code ({ cls := "ShoeHouse", name := "aRoom", desc := "(I)V" } : Jvm.MethodName) prog_1_method_11_code (2 : Nat) (Option.none : Option Jvm.ClassFile.FieldType)) ∈ lw_all := lw_g (lw_at lw_m4 36 rfl) rfl
theorem q848 : (Jvm.Cond.methodLink "ShoeHouse" (142 : Nat) ({ cls := "ShoeHouse", name := "oneOfTwo", desc := "(I)V" } : Jvm.MethodName)) ∈ lw_all := lw_g (lw_at lw_m4 37 rfl) rfl
theorem q849 : (Jvm.Cond.static ({ cls := "ShoeHouse", name := "oneOfTwo", desc := "(I)V" } : Jvm.MethodName)) ∈ lw_all := lw_g (lw_at lw_m4 38 rfl) rfl
theorem q850 : (Jvm.Cond.code ({ cls := "ShoeHouse", name := "oneOfTwo", desc := "(I)V" } : Jvm.MethodName) prog_1_method_14_code (1 : Nat) (Option.none : Option Jvm.ClassFile.FieldType)) ∈ lw_all := lw_g (lw_at lw_m4 39 rfl) rfl
theorem q851 : (Jvm.Cond.methodLink "ShoeHouse" (148 : Nat) ({ cls := "ShoeHouse$House", name := "lodgerOf", desc := "(I)I" } : Jvm.MethodName)) ∈ lw_all := lw_g (lw_at lw_m4 40 rfl) rfl
theorem q856 : (Jvm.Cond.instanceMethod ({ cls := "ShoeHouse", name := "lodger", desc := "(II)I" } : Jvm.MethodName)) ∈ lw_all := lw_g (lw_at lw_m4 45 rfl) rfl
theorem q857 : (Jvm.Cond.selects "ShoeHouse" ({ cls := "ShoeHouse", name := "lodger", desc := "(II)I" } : Jvm.MethodName) ({ cls := "ShoeHouse", name := "lodger", desc := "(II)I" } : Jvm.MethodName)) ∈ lw_all := lw_g (lw_at lw_m4 46 rfl) rfl
theorem q858 : (Jvm.Cond.code ({ cls := "ShoeHouse", name := "lodger", desc := "(II)I" } : Jvm.MethodName) prog_1_method_18_code (3 : Nat) (Option.some Jvm.ClassFile.FieldType.int)) ∈ lw_all := lw_g (lw_at lw_m4 47 rfl) rfl
theorem q859 : (Jvm.Cond.methodLink "ShoeHouse" (169 : Nat) ({ cls := "ShoeHouse", name := "aLodger", desc := "(I)V" } : Jvm.MethodName)) ∈ lw_all := lw_g (lw_at lw_m4 48 rfl) rfl
theorem q860 : (Jvm.Cond.privateMethod ({ cls := "ShoeHouse", name := "aLodger", desc := "(I)V" } : Jvm.MethodName)) ∈ lw_tbl := lw_at lw_m4 49 rfl
theorem q861 : (Jvm.Cond.instanceMethod ({ cls := "ShoeHouse", name := "aLodger", desc := "(I)V" } : Jvm.MethodName)) ∈ lw_all := lw_g (lw_at lw_m4 50 rfl) rfl
theorem q862 : (Jvm.Cond.code ({ cls := "ShoeHouse", name := "aLodger", desc := "(I)V" } : Jvm.MethodName) prog_1_method_12_code (2 : Nat) (Option.none : Option Jvm.ClassFile.FieldType)) ∈ lw_all := lw_g (lw_at lw_m4 51 rfl) rfl
theorem q867 : (Jvm.Cond.instanceMethod ({ cls := "ShoeHouse", name := "may", desc := "(III)I" } : Jvm.MethodName)) ∈ lw_all := lw_g (lw_at lw_m4 56 rfl) rfl
theorem q868 : (Jvm.Cond.selects "ShoeHouse" ({ cls := "ShoeHouse", name := "may", desc := "(III)I" } : Jvm.MethodName) ({ cls := "ShoeHouse", name := "may", desc := "(III)I" } : Jvm.MethodName)) ∈ lw_all := lw_g (lw_at lw_m4 57 rfl) rfl
theorem q869 : (Jvm.Cond.code ({ cls := "ShoeHouse", name := "may", desc := "(III)I" } : Jvm.MethodName) prog_1_method_19_code (5 : Nat) (Option.some Jvm.ClassFile.FieldType.int)) ∈ lw_all := lw_g (lw_at lw_m4 58 rfl) rfl
theorem q870 : (Jvm.Cond.methodLink "ShoeHouse" (175 : Nat) ({ cls := "ShoeHouse", name := "anHour", desc := "(I)V" } : Jvm.MethodName)) ∈ lw_all := lw_g (lw_at lw_m4 59 rfl) rfl
theorem q871 : (Jvm.Cond.static ({ cls := "ShoeHouse", name := "anHour", desc := "(I)V" } : Jvm.MethodName)) ∈ lw_all := lw_g (lw_at lw_m4 60 rfl) rfl
theorem q872 : (Jvm.Cond.code ({ cls := "ShoeHouse", name := "anHour", desc := "(I)V" } : Jvm.MethodName) prog_1_method_13_code (1 : Nat) (Option.none : Option Jvm.ClassFile.FieldType)) ∈ lw_all := lw_g (lw_at lw_m4 61 rfl) rfl
theorem q877 : (Jvm.Cond.instanceMethod ({ cls := "ShoeHouse", name := "says", desc := "(II)I" } : Jvm.MethodName)) ∈ lw_all := lw_g (lw_at lw_m4 66 rfl) rfl
theorem q878 : (Jvm.Cond.selects "ShoeHouse" ({ cls := "ShoeHouse", name := "says", desc := "(II)I" } : Jvm.MethodName) ({ cls := "ShoeHouse", name := "says", desc := "(II)I" } : Jvm.MethodName)) ∈ lw_all := lw_g (lw_at lw_m4 67 rfl) rfl
theorem q879 : (Jvm.Cond.code ({ cls := "ShoeHouse", name := "says", desc := "(II)I" } : Jvm.MethodName) prog_1_method_21_code (3 : Nat) (Option.some Jvm.ClassFile.FieldType.int)) ∈ lw_all := lw_g (lw_at lw_m4 68 rfl) rfl
theorem q880 : (Jvm.Cond.methodLink "ShoeHouse" (184 : Nat) ({ cls := "ShoeHouse", name := "signFor", desc := "(II)I" } : Jvm.MethodName)) ∈ lw_all := lw_g (lw_at lw_m4 69 rfl) rfl
theorem q885 : (Jvm.Cond.instanceMethod ({ cls := "ShoeHouse", name := "lend", desc := "(III)I" } : Jvm.MethodName)) ∈ lw_all := lw_g (lw_at lw_m4 74 rfl) rfl
theorem q886 : (Jvm.Cond.selects "ShoeHouse" ({ cls := "ShoeHouse", name := "lend", desc := "(III)I" } : Jvm.MethodName) ({ cls := "ShoeHouse", name := "lend", desc := "(III)I" } : Jvm.MethodName)) ∈ lw_all := lw_g (lw_at lw_m4 75 rfl) rfl
theorem q887 : (Jvm.Cond.code ({ cls := "ShoeHouse", name := "lend", desc := "(III)I" } : Jvm.MethodName) prog_1_method_22_code (4 : Nat) (Option.some Jvm.ClassFile.FieldType.int)) ∈ lw_all := lw_g (lw_at lw_m4 76 rfl) rfl
theorem q889 : (Jvm.Cond.methodLink "ShoeHouse" (187 : Nat) ({ cls := "ShoeHouse$Loan", name := "<init>", desc := "(III)V" } : Jvm.MethodName)) ∈ lw_all := lw_g (lw_at lw_m4 78 rfl) rfl
theorem q894 : (Jvm.Cond.fieldLinkNest "ShoeHouse" (160 : Nat) "ShoeHouse$Loan" "from" "I" "ShoeHouse") ∈ lw_tbl := lw_at lw_m4 83 rfl
theorem q896 : (Jvm.Cond.fieldLinkNest "ShoeHouse" (163 : Nat) "ShoeHouse$Loan" "to" "I" "ShoeHouse") ∈ lw_tbl := lw_at lw_m4 85 rfl
theorem q898 : (Jvm.Cond.fieldLinkNest "ShoeHouse" (157 : Nat) "ShoeHouse$Loan" "shoe" "I" "ShoeHouse") ∈ lw_tbl := lw_at lw_m4 87 rfl
theorem q906 : (Jvm.Cond.interfaceEntry "ShoeHouse" (190 : Nat)) ∈ lw_tbl := lw_at lw_m4 95 rfl
theorem q907 : (Jvm.Cond.methodLink "ShoeHouse" (190 : Nat) ({ cls := "java/util/List", name := "add", desc := "(Ljava/lang/Object;)Z" } : Jvm.MethodName)) ∈ lw_all := lw_g (lw_at lw_m4 96 rfl) rfl
theorem q912 : (Jvm.Cond.instanceMethod ({ cls := "ShoeHouse", name := "does", desc := "(II)I" } : Jvm.MethodName)) ∈ lw_all := lw_g (lw_at lw_m4 101 rfl) rfl
theorem q913 : (Jvm.Cond.selects "ShoeHouse" ({ cls := "ShoeHouse", name := "does", desc := "(II)I" } : Jvm.MethodName) ({ cls := "ShoeHouse", name := "does", desc := "(II)I" } : Jvm.MethodName)) ∈ lw_all := lw_g (lw_at lw_m4 102 rfl) rfl
theorem q914 : (Jvm.Cond.code ({ cls := "ShoeHouse", name := "does", desc := "(II)I" } : Jvm.MethodName) prog_1_method_25_code (3 : Nat) (Option.some Jvm.ClassFile.FieldType.int)) ∈ lw_all := lw_g (lw_at lw_m4 103 rfl) rfl
theorem q919 : (Jvm.Cond.instanceMethod ({ cls := "ShoeHouse", name := "sign", desc := "(II)I" } : Jvm.MethodName)) ∈ lw_all := lw_g (lw_at lw_m4 108 rfl) rfl
theorem q920 : (Jvm.Cond.selects "ShoeHouse" ({ cls := "ShoeHouse", name := "sign", desc := "(II)I" } : Jvm.MethodName) ({ cls := "ShoeHouse", name := "sign", desc := "(II)I" } : Jvm.MethodName)) ∈ lw_all := lw_g (lw_at lw_m4 109 rfl) rfl
theorem q921 : (Jvm.Cond.code ({ cls := "ShoeHouse", name := "sign", desc := "(II)I" } : Jvm.MethodName) prog_1_method_27_code (3 : Nat) (Option.some Jvm.ClassFile.FieldType.int)) ∈ lw_all := lw_g (lw_at lw_m4 110 rfl) rfl
theorem q922 : (Jvm.Cond.methodLink "ShoeHouse" (202 : Nat) ({ cls := "ShoeHouse", name := "signAt", desc := "(II)I" } : Jvm.MethodName)) ∈ lw_all := lw_g (lw_at lw_m4 111 rfl) rfl
theorem q923 : (Jvm.Cond.privateMethod ({ cls := "ShoeHouse", name := "signAt", desc := "(II)I" } : Jvm.MethodName)) ∈ lw_tbl := lw_at lw_m4 112 rfl
theorem q924 : (Jvm.Cond.instanceMethod ({ cls := "ShoeHouse", name := "signAt", desc := "(II)I" } : Jvm.MethodName)) ∈ lw_all := lw_g (lw_at lw_m4 113 rfl) rfl
theorem q925 : (Jvm.Cond.code ({ cls := "ShoeHouse", name := "signAt", desc := "(II)I" } : Jvm.MethodName) prog_1_method_26_code (4 : Nat) (Option.some Jvm.ClassFile.FieldType.int)) ∈ lw_all := lw_g (lw_at lw_m4 114 rfl) rfl
theorem q930 : (Jvm.Cond.instanceMethod ({ cls := "ShoeHouse", name := "look", desc := "(III)I" } : Jvm.MethodName)) ∈ lw_all := lw_g (lw_at lw_m4 119 rfl) rfl
theorem q931 : (Jvm.Cond.selects "ShoeHouse" ({ cls := "ShoeHouse", name := "look", desc := "(III)I" } : Jvm.MethodName) ({ cls := "ShoeHouse", name := "look", desc := "(III)I" } : Jvm.MethodName)) ∈ lw_all := lw_g (lw_at lw_m4 120 rfl) rfl
theorem q932 : (Jvm.Cond.code ({ cls := "ShoeHouse", name := "look", desc := "(III)I" } : Jvm.MethodName) prog_1_method_28_code (5 : Nat) (Option.some Jvm.ClassFile.FieldType.int)) ∈ lw_all := lw_g (lw_at lw_m4 121 rfl) rfl
theorem q937 : (Jvm.Cond.instanceMethod ({ cls := "ShoeHouse", name := "theft", desc := "(II)I" } : Jvm.MethodName)) ∈ lw_all := lw_g (lw_at lw_m4 126 rfl) rfl
theorem q938 : (Jvm.Cond.selects "ShoeHouse" ({ cls := "ShoeHouse", name := "theft", desc := "(II)I" } : Jvm.MethodName) ({ cls := "ShoeHouse", name := "theft", desc := "(II)I" } : Jvm.MethodName)) ∈ lw_all := lw_g (lw_at lw_m4 127 rfl) rfl
theorem q939 : (Jvm.Cond.code ({ cls := "ShoeHouse", name := "theft", desc := "(II)I" } : Jvm.MethodName) prog_1_method_29_code (5 : Nat) (Option.some Jvm.ClassFile.FieldType.int)) ∈ lw_all := lw_g (lw_at lw_m4 128 rfl) rfl
theorem q944 : (Jvm.Cond.instanceMethod ({ cls := "ShoeHouse", name := "see", desc := "(III)I" } : Jvm.MethodName)) ∈ lw_all := lw_g (lw_at lw_m4 133 rfl) rfl
theorem q945 : (Jvm.Cond.selects "ShoeHouse" ({ cls := "ShoeHouse", name := "see", desc := "(III)I" } : Jvm.MethodName) ({ cls := "ShoeHouse", name := "see", desc := "(III)I" } : Jvm.MethodName)) ∈ lw_all := lw_g (lw_at lw_m4 134 rfl) rfl
theorem q946 : (Jvm.Cond.code ({ cls := "ShoeHouse", name := "see", desc := "(III)I" } : Jvm.MethodName) prog_1_method_30_code (4 : Nat) (Option.some Jvm.ClassFile.FieldType.int)) ∈ lw_all := lw_g (lw_at lw_m4 135 rfl) rfl
theorem q951 : (Jvm.Cond.instanceMethod ({ cls := "ShoeHouse", name := "inCase", desc := "(II)I" } : Jvm.MethodName)) ∈ lw_all := lw_g (lw_at lw_m4 140 rfl) rfl
theorem q952 : (Jvm.Cond.selects "ShoeHouse" ({ cls := "ShoeHouse", name := "inCase", desc := "(II)I" } : Jvm.MethodName) ({ cls := "ShoeHouse", name := "inCase", desc := "(II)I" } : Jvm.MethodName)) ∈ lw_all := lw_g (lw_at lw_m4 141 rfl) rfl
theorem q953 : (Jvm.Cond.code ({ cls := "ShoeHouse", name := "inCase", desc := "(II)I" } : Jvm.MethodName) prog_1_method_34_code (4 : Nat) (Option.some Jvm.ClassFile.FieldType.int)) ∈ lw_all := lw_g (lw_at lw_m4 142 rfl) rfl
theorem q954 : (Jvm.Cond.methodLink "ShoeHouse" (227 : Nat) ({ cls := "ShoeHouse$Cases", name := "does", desc := "(II)I" } : Jvm.MethodName)) ∈ lw_all := lw_g (lw_at lw_m4 143 rfl) rfl
theorem q962 : (Jvm.Cond.instanceMethod ({ cls := "ShoeHouse", name := "sure", desc := "(I)I" } : Jvm.MethodName)) ∈ lw_all := lw_g (lw_at lw_m4 151 rfl) rfl
theorem q963 : (Jvm.Cond.selects "ShoeHouse" ({ cls := "ShoeHouse", name := "sure", desc := "(I)I" } : Jvm.MethodName) ({ cls := "ShoeHouse", name := "sure", desc := "(I)I" } : Jvm.MethodName)) ∈ lw_all := lw_g (lw_at lw_m4 152 rfl) rfl
theorem q964 : (Jvm.Cond.code ({ cls := "ShoeHouse", name := "sure", desc := "(I)I" } : Jvm.MethodName) prog_1_method_35_code (10 : Nat) (Option.some Jvm.ClassFile.FieldType.int)) ∈ lw_all := lw_g (lw_at lw_m4 153 rfl) rfl
theorem q965 : (Jvm.Cond.methodLink "ShoeHouse" (230 : Nat) ({ cls := "ShoeHouse$Cases", name := "empty", desc := "(I)I" } : Jvm.MethodName)) ∈ lw_all := lw_g (lw_at lw_m4 154 rfl) rfl
theorem q981 : (Jvm.Cond.instanceMethod ({ cls := "ShoeHouse", name := "where", desc := "(I)I" } : Jvm.MethodName)) ∈ lw_all := lw_g (lw_at lw_m4 170 rfl) rfl
theorem q982 : (Jvm.Cond.selects "ShoeHouse" ({ cls := "ShoeHouse", name := "where", desc := "(I)I" } : Jvm.MethodName) ({ cls := "ShoeHouse", name := "where", desc := "(I)I" } : Jvm.MethodName)) ∈ lw_all := lw_g (lw_at lw_m4 171 rfl) rfl
theorem q983 : (Jvm.Cond.code ({ cls := "ShoeHouse", name := "where", desc := "(I)I" } : Jvm.MethodName) prog_1_method_36_code (6 : Nat) (Option.some Jvm.ClassFile.FieldType.int)) ∈ lw_all := lw_g (lw_at lw_m4 172 rfl) rfl
theorem q984 : (Jvm.Cond.methodLink "ShoeHouse" (237 : Nat) ({ cls := "ShoeHouse$Lodger", name := "place", desc := "(I)I" } : Jvm.MethodName)) ∈ lw_all := lw_g (lw_at lw_m4 173 rfl) rfl
theorem q989 : (Jvm.Cond.instanceMethod ({ cls := "ShoeHouse", name := "misled", desc := "(III)I" } : Jvm.MethodName)) ∈ lw_all := lw_g (lw_at lw_m4 178 rfl) rfl
theorem q990 : (Jvm.Cond.selects "ShoeHouse" ({ cls := "ShoeHouse", name := "misled", desc := "(III)I" } : Jvm.MethodName) ({ cls := "ShoeHouse", name := "misled", desc := "(III)I" } : Jvm.MethodName)) ∈ lw_all := lw_g (lw_at lw_m4 179 rfl) rfl
theorem q991 : (Jvm.Cond.code ({ cls := "ShoeHouse", name := "misled", desc := "(III)I" } : Jvm.MethodName) prog_1_method_40_code (5 : Nat) (Option.some Jvm.ClassFile.FieldType.int)) ∈ lw_all := lw_g (lw_at lw_m4 180 rfl) rfl
theorem q992 : (Jvm.Cond.methodLink "ShoeHouse" (248 : Nat) ({ cls := "ShoeHouse", name := "liars", desc := "(II)I" } : Jvm.MethodName)) ∈ lw_all := lw_g (lw_at lw_m4 181 rfl) rfl
theorem q993 : (Jvm.Cond.privateMethod ({ cls := "ShoeHouse", name := "liars", desc := "(II)I" } : Jvm.MethodName)) ∈ lw_tbl := lw_at lw_m4 182 rfl
theorem q994 : (Jvm.Cond.instanceMethod ({ cls := "ShoeHouse", name := "liars", desc := "(II)I" } : Jvm.MethodName)) ∈ lw_all := lw_g (lw_at lw_m4 183 rfl) rfl
theorem q995 : (Jvm.Cond.code ({ cls := "ShoeHouse", name := "liars", desc := "(II)I" } : Jvm.MethodName) prog_1_method_39_code (8 : Nat) (Option.some Jvm.ClassFile.FieldType.int)) ∈ lw_all := lw_g (lw_at lw_m4 184 rfl) rfl
theorem q996 : (Jvm.Cond.methodLink "ShoeHouse" (240 : Nat) ({ cls := "ShoeHouse", name := "tale", desc := "(IIII)I" } : Jvm.MethodName)) ∈ lw_all := lw_g (lw_at lw_m4 185 rfl) rfl
theorem q997 : (Jvm.Cond.privateMethod ({ cls := "ShoeHouse", name := "tale", desc := "(IIII)I" } : Jvm.MethodName)) ∈ lw_tbl := lw_at lw_m4 186 rfl
theorem q998 : (Jvm.Cond.instanceMethod ({ cls := "ShoeHouse", name := "tale", desc := "(IIII)I" } : Jvm.MethodName)) ∈ lw_all := lw_g (lw_at lw_m4 187 rfl) rfl
theorem q999 : (Jvm.Cond.code ({ cls := "ShoeHouse", name := "tale", desc := "(IIII)I" } : Jvm.MethodName) prog_1_method_37_code (8 : Nat) (Option.some Jvm.ClassFile.FieldType.int)) ∈ lw_all := lw_g (lw_at lw_m4 188 rfl) rfl
theorem q1000 : (Jvm.Cond.methodLink "ShoeHouse" (244 : Nat) ({ cls := "ShoeHouse", name := "canLie", desc := "(IIIZ)Z" } : Jvm.MethodName)) ∈ lw_all := lw_g (lw_at lw_m4 189 rfl) rfl
theorem q1001 : (Jvm.Cond.privateMethod ({ cls := "ShoeHouse", name := "canLie", desc := "(IIIZ)Z" } : Jvm.MethodName)) ∈ lw_tbl := lw_at lw_m4 190 rfl
theorem q1002 : (Jvm.Cond.instanceMethod ({ cls := "ShoeHouse", name := "canLie", desc := "(IIIZ)Z" } : Jvm.MethodName)) ∈ lw_all := lw_g (lw_at lw_m4 191 rfl) rfl
theorem q1003 : (Jvm.Cond.code ({ cls := "ShoeHouse", name := "canLie", desc := "(IIIZ)Z" } : Jvm.MethodName) prog_1_method_38_code (8 : Nat) (Option.some Jvm.ClassFile.FieldType.boolean)) ∈ lw_all := lw_g (lw_at lw_m4 192 rfl) rfl
theorem q1008 : (Jvm.Cond.instanceMethod ({ cls := "ShoeHouse", name := "chance", desc := "(II)I" } : Jvm.MethodName)) ∈ lw_all := lw_g (lw_at lw_m4 197 rfl) rfl
theorem q1009 : (Jvm.Cond.selects "ShoeHouse" ({ cls := "ShoeHouse", name := "chance", desc := "(II)I" } : Jvm.MethodName) ({ cls := "ShoeHouse", name := "chance", desc := "(II)I" } : Jvm.MethodName)) ∈ lw_all := lw_g (lw_at lw_m4 198 rfl) rfl
theorem q1010 : (Jvm.Cond.code ({ cls := "ShoeHouse", name := "chance", desc := "(II)I" } : Jvm.MethodName) prog_1_method_42_code (3 : Nat) (Option.some Jvm.ClassFile.FieldType.int)) ∈ lw_all := lw_g (lw_at lw_m4 199 rfl) rfl
theorem q1011 : (Jvm.Cond.methodLink "ShoeHouse" (251 : Nat) ({ cls := "ShoeHouse", name := "chanceOf", desc := "(II)I" } : Jvm.MethodName)) ∈ lw_all := lw_g (lw_at lw_m4 200 rfl) rfl
theorem q1012 : (Jvm.Cond.privateMethod ({ cls := "ShoeHouse", name := "chanceOf", desc := "(II)I" } : Jvm.MethodName)) ∈ lw_tbl := lw_at lw_m4 201 rfl
theorem q1013 : (Jvm.Cond.instanceMethod ({ cls := "ShoeHouse", name := "chanceOf", desc := "(II)I" } : Jvm.MethodName)) ∈ lw_all := lw_g (lw_at lw_m4 202 rfl) rfl
theorem q1014 : (Jvm.Cond.code ({ cls := "ShoeHouse", name := "chanceOf", desc := "(II)I" } : Jvm.MethodName) prog_1_method_41_code (7 : Nat) (Option.some Jvm.ClassFile.FieldType.int)) ∈ lw_all := lw_g (lw_at lw_m4 203 rfl) rfl
theorem q1019 : (Jvm.Cond.instanceMethod ({ cls := "ShoeHouse", name := "round", desc := "(III)I" } : Jvm.MethodName)) ∈ lw_all := lw_g (lw_at lw_m4 208 rfl) rfl
theorem q1020 : (Jvm.Cond.selects "ShoeHouse" ({ cls := "ShoeHouse", name := "round", desc := "(III)I" } : Jvm.MethodName) ({ cls := "ShoeHouse", name := "round", desc := "(III)I" } : Jvm.MethodName)) ∈ lw_all := lw_g (lw_at lw_m4 209 rfl) rfl
theorem q1021 : (Jvm.Cond.code ({ cls := "ShoeHouse", name := "round", desc := "(III)I" } : Jvm.MethodName) prog_1_method_44_code (6 : Nat) (Option.some Jvm.ClassFile.FieldType.int)) ∈ lw_all := lw_g (lw_at lw_m4 210 rfl) rfl
theorem q1022 : (Jvm.Cond.classLink "ShoeHouse" (254 : Nat) "ShoeHouse$Walk") ∈ lw_all := lw_g (lw_at lw_m4 211 rfl) rfl
theorem q1024 : (Jvm.Cond.methodLink "ShoeHouse" (256 : Nat) ({ cls := "ShoeHouse$Walk", name := "<init>", desc := "(LShoeHouse;III)V" } : Jvm.MethodName)) ∈ lw_all := lw_g (lw_at lw_m4 213 rfl) rfl
theorem q1029 : (Jvm.Cond.privateMethod ({ cls := "ShoeHouse", name := "worth", desc := "(II)I" } : Jvm.MethodName)) ∈ lw_tbl := lw_at lw_m4 218 rfl
theorem q1030 : (Jvm.Cond.instanceMethod ({ cls := "ShoeHouse", name := "worth", desc := "(II)I" } : Jvm.MethodName)) ∈ lw_all := lw_g (lw_at lw_m4 219 rfl) rfl
theorem q1031 : (Jvm.Cond.code ({ cls := "ShoeHouse", name := "worth", desc := "(II)I" } : Jvm.MethodName) prog_1_method_43_code (3 : Nat) (Option.some Jvm.ClassFile.FieldType.int)) ∈ lw_all := lw_g (lw_at lw_m4 220 rfl) rfl
theorem q1045 : (Jvm.Cond.fieldLinkNest "ShoeHouse" (263 : Nat) "ShoeHouse$Walk" "best" "[I" "ShoeHouse") ∈ lw_tbl := lw_at lw_m4 234 rfl
theorem q1048 : (Jvm.Cond.fieldLinkNest "ShoeHouse" (269 : Nat) "ShoeHouse$Walk" "most" "I" "ShoeHouse") ∈ lw_tbl := lw_at lw_m4 237 rfl
theorem q1063 : (Jvm.Cond.methodLinkNest "ShoeHouse" (266 : Nat) ({ cls := "ShoeHouse$Walk", name := "looks", desc := "([II)Z" } : Jvm.MethodName) "ShoeHouse") ∈ lw_tbl := lw_at lw_m5 12 rfl
theorem q1069 : (Jvm.Cond.instanceMethod ({ cls := "ShoeHouse", name := "path", desc := "(II)I" } : Jvm.MethodName)) ∈ lw_all := lw_g (lw_at lw_m5 18 rfl) rfl
theorem q1070 : (Jvm.Cond.selects "ShoeHouse" ({ cls := "ShoeHouse", name := "path", desc := "(II)I" } : Jvm.MethodName) ({ cls := "ShoeHouse", name := "path", desc := "(II)I" } : Jvm.MethodName)) ∈ lw_all := lw_g (lw_at lw_m5 19 rfl) rfl
theorem q1071 : (Jvm.Cond.code ({ cls := "ShoeHouse", name := "path", desc := "(II)I" } : Jvm.MethodName) prog_1_method_45_code (3 : Nat) (Option.some Jvm.ClassFile.FieldType.int)) ∈ lw_all := lw_g (lw_at lw_m5 20 rfl) rfl
theorem q1076 : (Jvm.Cond.instanceMethod ({ cls := "ShoeHouse", name := "rests", desc := "(III)I" } : Jvm.MethodName)) ∈ lw_all := lw_g (lw_at lw_m5 25 rfl) rfl
theorem q1077 : (Jvm.Cond.selects "ShoeHouse" ({ cls := "ShoeHouse", name := "rests", desc := "(III)I" } : Jvm.MethodName) ({ cls := "ShoeHouse", name := "rests", desc := "(III)I" } : Jvm.MethodName)) ∈ lw_all := lw_g (lw_at lw_m5 26 rfl) rfl
theorem q1078 : (Jvm.Cond.code ({ cls := "ShoeHouse", name := "rests", desc := "(III)I" } : Jvm.MethodName) prog_1_method_48_code (11 : Nat) (Option.some Jvm.ClassFile.FieldType.int)) ∈ lw_all := lw_g (lw_at lw_m5 27 rfl) rfl
theorem q1079 : (Jvm.Cond.methodLink "ShoeHouse" (276 : Nat) ({ cls := "ShoeHouse", name := "worth", desc := "(II)I" } : Jvm.MethodName)) ∈ lw_all := lw_g (lw_at lw_m5 28 rfl) rfl
theorem q1080 : (Jvm.Cond.methodLink "ShoeHouse" (279 : Nat) ({ cls := "ShoeHouse", name := "isRest", desc := "([I[I)Z" } : Jvm.MethodName)) ∈ lw_all := lw_g (lw_at lw_m5 29 rfl) rfl
theorem q1081 : (Jvm.Cond.privateMethod ({ cls := "ShoeHouse", name := "isRest", desc := "([I[I)Z" } : Jvm.MethodName)) ∈ lw_tbl := lw_at lw_m5 30 rfl
theorem q1082 : (Jvm.Cond.instanceMethod ({ cls := "ShoeHouse", name := "isRest", desc := "([I[I)Z" } : Jvm.MethodName)) ∈ lw_all := lw_g (lw_at lw_m5 31 rfl) rfl
theorem q1083 : (Jvm.Cond.code ({ cls := "ShoeHouse", name := "isRest", desc := "([I[I)Z" } : Jvm.MethodName) prog_1_method_47_code (8 : Nat) (Option.some Jvm.ClassFile.FieldType.boolean)) ∈ lw_all := lw_g (lw_at lw_m5 32 rfl) rfl
theorem q1084 : (Jvm.Cond.methodLink "ShoeHouse" (272 : Nat) ({ cls := "ShoeHouse", name := "gain", desc := "([II[I)I" } : Jvm.MethodName)) ∈ lw_all := lw_g (lw_at lw_m5 33 rfl) rfl
theorem q1085 : (Jvm.Cond.static ({ cls := "ShoeHouse", name := "gain", desc := "([II[I)I" } : Jvm.MethodName)) ∈ lw_all := lw_g (lw_at lw_m5 34 rfl) rfl
theorem q1086 : (Jvm.Cond.code ({ cls := "ShoeHouse", name := "gain", desc := "([II[I)I" } : Jvm.MethodName) prog_1_method_46_code (5 : Nat) (Option.some Jvm.ClassFile.FieldType.int)) ∈ lw_all := lw_g (lw_at lw_m5 35 rfl) rfl
theorem q1091 : (Jvm.Cond.instanceMethod ({ cls := "ShoeHouse", name := "fewest", desc := "(II)I" } : Jvm.MethodName)) ∈ lw_all := lw_g (lw_at lw_m5 40 rfl) rfl
theorem q1092 : (Jvm.Cond.selects "ShoeHouse" ({ cls := "ShoeHouse", name := "fewest", desc := "(II)I" } : Jvm.MethodName) ({ cls := "ShoeHouse", name := "fewest", desc := "(II)I" } : Jvm.MethodName)) ∈ lw_all := lw_g (lw_at lw_m5 41 rfl) rfl
theorem q1093 : (Jvm.Cond.code ({ cls := "ShoeHouse", name := "fewest", desc := "(II)I" } : Jvm.MethodName) prog_1_method_49_code (4 : Nat) (Option.some Jvm.ClassFile.FieldType.int)) ∈ lw_all := lw_g (lw_at lw_m5 42 rfl) rfl
theorem q1094 : (Jvm.Cond.classLink "ShoeHouse" (283 : Nat) "ShoeHouse$Lending") ∈ lw_all := lw_g (lw_at lw_m5 43 rfl) rfl
theorem q1096 : (Jvm.Cond.methodLink "ShoeHouse" (285 : Nat) ({ cls := "ShoeHouse$Lending", name := "<init>", desc := "(LShoeHouse;II)V" } : Jvm.MethodName)) ∈ lw_all := lw_g (lw_at lw_m5 45 rfl) rfl
theorem q1115 : (Jvm.Cond.fieldLinkNest "ShoeHouse" (292 : Nat) "ShoeHouse$Lending" "row" "[I" "ShoeHouse") ∈ lw_tbl := lw_at lw_m5 64 rfl
theorem q1117 : (Jvm.Cond.fieldLinkNest "ShoeHouse" (295 : Nat) "ShoeHouse$Lending" "many" "I" "ShoeHouse") ∈ lw_tbl := lw_at lw_m5 66 rfl
theorem q1132 : (Jvm.Cond.methodLink "ShoeHouse" (288 : Nat) ({ cls := "ShoeHouse$Lending", name := "go", desc := "(I)Z" } : Jvm.MethodName)) ∈ lw_all := lw_g (lw_at lw_m5 81 rfl) rfl
theorem q1146 : (Jvm.Cond.instanceMethod ({ cls := "ShoeHouse", name := "lender", desc := "(I)I" } : Jvm.MethodName)) ∈ lw_all := lw_g (lw_at lw_m5 95 rfl) rfl
theorem q1147 : (Jvm.Cond.selects "ShoeHouse" ({ cls := "ShoeHouse", name := "lender", desc := "(I)I" } : Jvm.MethodName) ({ cls := "ShoeHouse", name := "lender", desc := "(I)I" } : Jvm.MethodName)) ∈ lw_all := lw_g (lw_at lw_m5 96 rfl) rfl
theorem q1148 : (Jvm.Cond.code ({ cls := "ShoeHouse", name := "lender", desc := "(I)I" } : Jvm.MethodName) prog_1_method_50_code (2 : Nat) (Option.some Jvm.ClassFile.FieldType.int)) ∈ lw_all := lw_g (lw_at lw_m5 97 rfl) rfl
theorem q1153 : (Jvm.Cond.instanceMethod ({ cls := "ShoeHouse", name := "kinds", desc := "(II)I" } : Jvm.MethodName)) ∈ lw_all := lw_g (lw_at lw_m5 102 rfl) rfl
theorem q1154 : (Jvm.Cond.selects "ShoeHouse" ({ cls := "ShoeHouse", name := "kinds", desc := "(II)I" } : Jvm.MethodName) ({ cls := "ShoeHouse", name := "kinds", desc := "(II)I" } : Jvm.MethodName)) ∈ lw_all := lw_g (lw_at lw_m5 103 rfl) rfl
theorem q1155 : (Jvm.Cond.code ({ cls := "ShoeHouse", name := "kinds", desc := "(II)I" } : Jvm.MethodName) prog_1_method_53_code (5 : Nat) (Option.some Jvm.ClassFile.FieldType.int)) ∈ lw_all := lw_g (lw_at lw_m5 104 rfl) rfl
theorem q1156 : (Jvm.Cond.methodLink "ShoeHouse" (296 : Nat) ({ cls := "ShoeHouse", name := "isApart", desc := "(I)Z" } : Jvm.MethodName)) ∈ lw_all := lw_g (lw_at lw_m5 105 rfl) rfl
theorem q1157 : (Jvm.Cond.static ({ cls := "ShoeHouse", name := "isApart", desc := "(I)Z" } : Jvm.MethodName)) ∈ lw_all := lw_g (lw_at lw_m5 106 rfl) rfl
theorem q1158 : (Jvm.Cond.code ({ cls := "ShoeHouse", name := "isApart", desc := "(I)Z" } : Jvm.MethodName) prog_1_method_52_code (1 : Nat) (Option.some Jvm.ClassFile.FieldType.boolean)) ∈ lw_all := lw_g (lw_at lw_m5 107 rfl) rfl
theorem q1159 : (Jvm.Cond.methodLink "ShoeHouse" (299 : Nat) ({ cls := "ShoeHouse", name := "words", desc := "(I[I)I" } : Jvm.MethodName)) ∈ lw_all := lw_g (lw_at lw_m5 108 rfl) rfl
theorem q1160 : (Jvm.Cond.static ({ cls := "ShoeHouse", name := "words", desc := "(I[I)I" } : Jvm.MethodName)) ∈ lw_all := lw_g (lw_at lw_m5 109 rfl) rfl
theorem q1161 : (Jvm.Cond.code ({ cls := "ShoeHouse", name := "words", desc := "(I[I)I" } : Jvm.MethodName) prog_1_method_51_code (6 : Nat) (Option.some Jvm.ClassFile.FieldType.int)) ∈ lw_all := lw_g (lw_at lw_m5 110 rfl) rfl
theorem q1166 : (Jvm.Cond.instanceMethod ({ cls := "ShoeHouse", name := "word", desc := "(II)I" } : Jvm.MethodName)) ∈ lw_all := lw_g (lw_at lw_m5 115 rfl) rfl
theorem q1167 : (Jvm.Cond.selects "ShoeHouse" ({ cls := "ShoeHouse", name := "word", desc := "(II)I" } : Jvm.MethodName) ({ cls := "ShoeHouse", name := "word", desc := "(II)I" } : Jvm.MethodName)) ∈ lw_all := lw_g (lw_at lw_m5 116 rfl) rfl
theorem q1168 : (Jvm.Cond.code ({ cls := "ShoeHouse", name := "word", desc := "(II)I" } : Jvm.MethodName) prog_1_method_54_code (4 : Nat) (Option.some Jvm.ClassFile.FieldType.int)) ∈ lw_all := lw_g (lw_at lw_m5 117 rfl) rfl
theorem q1173 : (Jvm.Cond.instanceMethod ({ cls := "ShoeHouse", name := "mend", desc := "(III)I" } : Jvm.MethodName)) ∈ lw_all := lw_g (lw_at lw_m5 122 rfl) rfl
theorem q1174 : (Jvm.Cond.selects "ShoeHouse" ({ cls := "ShoeHouse", name := "mend", desc := "(III)I" } : Jvm.MethodName) ({ cls := "ShoeHouse", name := "mend", desc := "(III)I" } : Jvm.MethodName)) ∈ lw_all := lw_g (lw_at lw_m5 123 rfl) rfl
theorem q1175 : (Jvm.Cond.code ({ cls := "ShoeHouse", name := "mend", desc := "(III)I" } : Jvm.MethodName) prog_1_method_55_code (6 : Nat) (Option.some Jvm.ClassFile.FieldType.int)) ∈ lw_all := lw_g (lw_at lw_m5 124 rfl) rfl
theorem q1180 : (Jvm.Cond.instanceMethod ({ cls := "ShoeHouse", name := "fire", desc := "(IIIII)J" } : Jvm.MethodName)) ∈ lw_all := lw_g (lw_at lw_m5 129 rfl) rfl
theorem q1181 : (Jvm.Cond.selects "ShoeHouse" ({ cls := "ShoeHouse", name := "fire", desc := "(IIIII)J" } : Jvm.MethodName) ({ cls := "ShoeHouse", name := "fire", desc := "(IIIII)J" } : Jvm.MethodName)) ∈ lw_all := lw_g (lw_at lw_m5 130 rfl) rfl
theorem q1182 : (Jvm.Cond.code ({ cls := "ShoeHouse", name := "fire", desc := "(IIIII)J" } : Jvm.MethodName) prog_1_method_57_code (12 : Nat) (Option.some Jvm.ClassFile.FieldType.long)) ∈ lw_all := lw_g (lw_at lw_m5 131 rfl) rfl
theorem q1183 : (Jvm.Cond.methodLink "ShoeHouse" (303 : Nat) ({ cls := "java/lang/Math", name := "abs", desc := "(I)I" } : Jvm.MethodName)) ∈ lw_all := lw_g (lw_at lw_m5 132 rfl) rfl
theorem q1186 : (Jvm.Cond.methodLink "ShoeHouse" (306 : Nat) ({ cls := "java/lang/Math", name := "min", desc := "(II)I" } : Jvm.MethodName)) ∈ lw_all := lw_g (lw_at lw_m5 135 rfl) rfl
theorem q1187 : (Jvm.Cond.constantLong "ShoeHouse" (309 : Nat) (10 : Int64)) ∈ lw_all := lw_g (lw_at lw_m5 136 rfl) rfl
theorem q1188 : (Jvm.Cond.methodLink "ShoeHouse" (311 : Nat) ({ cls := "ShoeHouse", name := "common", desc := "(JJ)J" } : Jvm.MethodName)) ∈ lw_all := lw_g (lw_at lw_m5 137 rfl) rfl
theorem q1189 : (Jvm.Cond.static ({ cls := "ShoeHouse", name := "common", desc := "(JJ)J" } : Jvm.MethodName)) ∈ lw_all := lw_g (lw_at lw_m5 138 rfl) rfl
theorem q1190 : (Jvm.Cond.code ({ cls := "ShoeHouse", name := "common", desc := "(JJ)J" } : Jvm.MethodName) prog_1_method_56_code (10 : Nat) (Option.some Jvm.ClassFile.FieldType.long)) ∈ lw_all := lw_g (lw_at lw_m5 139 rfl) rfl
theorem q1784 : (Jvm.Cond.castable "ShoeHouse" "java/lang/Object") ∈ lw_tbl := lw_at lw_m8 13 rfl
theorem in_X1 : ∀ w ∈ wsX10, w ∈ lw_all := lw_in wsX10 [223, 225, 227, 229, 231, 233, 235, 237, 239, 241, 243, 245, 247, 249, 251, 253, 255, 257, 259, 261] (by decide +kernel) (by decide +kernel)
/-! ShoeHouse$Lending -/
def RX10 : String := "ShoeHouse$Lending"
def TX10 : u_T := fun k => match k with
  | 0 => ("ShoeHouse$Lending", "from", "I", true)
  | 1 => ("ShoeHouse$Lending", "to", "I", true)
  | 2 => ("ShoeHouse$Lending", "spare", "[I", true)
  | 3 => ("ShoeHouse$Lending", "row", "[I", true)
  | 4 => ("ShoeHouse$Lending", "many", "I", false)
  | _ => ("ShoeHouse$Lending", "this$0", "LShoeHouse;", true)
def tyX10 : Nat → FieldType := fun k => match k with
  | 0 => .int
  | 1 => .int
  | 2 => .array .int
  | 3 => .array .int
  | 4 => .int
  | _ => .object "ShoeHouse"
abbrev wsX100 : List Cond := u_ws RX10 TX10 6
theorem nmX10 : ∀ a, a < 6 → ∀ b, b < 6 → a ≠ b → (TX10 a).2.1 ≠ (TX10 b).2.1 := by decide +kernel
theorem tyX10_ok : ∀ k, k < 6 → parseFieldDescriptor (TX10 k).2.2.1 = some (tyX10 k) := by decide +kernel
abbrev cX10_init : ByteArray := prog_4_method_1_code
def yX10_init : MethodName := ⟨RX10, "<init>", "(LShoeHouse;II)V"⟩
abbrev cX10_isNeeded : ByteArray := prog_4_method_3_code
def yX10_isNeeded : MethodName := ⟨RX10, "isNeeded", "(II)Z"⟩
abbrev cX10_law : ByteArray := prog_4_method_2_code
def yX10_law : MethodName := ⟨RX10, "law", "(II)I"⟩
abbrev cX10_go : ByteArray := prog_4_method_5_code
def yX10_go : MethodName := ⟨RX10, "go", "(I)Z"⟩
abbrev cX10_isFine : ByteArray := prog_4_method_4_code
def yX10_isFine : MethodName := ⟨RX10, "isFine", "(II)Z"⟩
theorem q119 : (Jvm.Cond.initialized "ShoeHouse$Lending") ∈ lw_all := lw_g (lw_at lw_m1 28 rfl) rfl
theorem q200 : (Jvm.Cond.fieldLinkNest "ShoeHouse$Lending" (41 : Nat) "ShoeHouse" "house" "LShoeHouse$House;" "ShoeHouse") ∈ lw_tbl := lw_at lw_m1 109 rfl
theorem q209 : (Jvm.Cond.fieldLinkNest "ShoeHouse$Lending" (45 : Nat) "ShoeHouse" "day" "[I" "ShoeHouse") ∈ lw_tbl := lw_at lw_m1 118 rfl
theorem q447 : (Jvm.Cond.selects "ShoeHouse$Lending" ({ cls := "java/lang/Object", name := "getClass", desc := "()Ljava/lang/Class;" } : Jvm.MethodName) ({ cls := "java/lang/Object", name := "getClass", desc := "()Ljava/lang/Class;" } : Jvm.MethodName)) ∈ lw_all := lw_g (lw_at lw_m2 116 rfl) rfl
theorem q1095 : (Jvm.Cond.instantiable "ShoeHouse$Lending" (6 : Nat)) ∈ lw_all := lw_g (lw_at lw_m5 44 rfl) rfl
theorem q1097 : (Jvm.Cond.instanceMethod ({ cls := "ShoeHouse$Lending", name := "<init>", desc := "(LShoeHouse;II)V" } : Jvm.MethodName)) ∈ lw_all := lw_g (lw_at lw_m5 46 rfl) rfl
theorem q1098 : (Jvm.Cond.code ({ cls := "ShoeHouse$Lending", name := "<init>", desc := "(LShoeHouse;II)V" } : Jvm.MethodName) prog_4_method_1_code (6 : Nat) (Option.none : Option Jvm.ClassFile.FieldType)) ∈ lw_all := lw_g (lw_at lw_m5 47 rfl) rfl
theorem q1099 : (Jvm.Cond.methodLink "ShoeHouse$Lending" (9 : Nat) ({ cls := "java/lang/Object", name := "<init>", desc := "()V" } : Jvm.MethodName)) ∈ lw_all := lw_g (lw_at lw_m5 48 rfl) rfl
theorem q1100 : (Jvm.Cond.methodLinkNest "ShoeHouse$Lending" (29 : Nat) ({ cls := "ShoeHouse", name := "lodgers", desc := "()I" } : Jvm.MethodName) "ShoeHouse") ∈ lw_tbl := lw_at lw_m5 49 rfl
theorem q1101 : (Jvm.Cond.methodLink "ShoeHouse$Lending" (33 : Nat) ({ cls := "ShoeHouse$Lending", name := "isNeeded", desc := "(II)Z" } : Jvm.MethodName)) ∈ lw_all := lw_g (lw_at lw_m5 50 rfl) rfl
theorem q1102 : (Jvm.Cond.privateMethod ({ cls := "ShoeHouse$Lending", name := "isNeeded", desc := "(II)Z" } : Jvm.MethodName)) ∈ lw_tbl := lw_at lw_m5 51 rfl
theorem q1103 : (Jvm.Cond.instanceMethod ({ cls := "ShoeHouse$Lending", name := "isNeeded", desc := "(II)Z" } : Jvm.MethodName)) ∈ lw_all := lw_g (lw_at lw_m5 52 rfl) rfl
theorem q1104 : (Jvm.Cond.code ({ cls := "ShoeHouse$Lending", name := "isNeeded", desc := "(II)Z" } : Jvm.MethodName) prog_4_method_3_code (4 : Nat) (Option.some Jvm.ClassFile.FieldType.boolean)) ∈ lw_all := lw_g (lw_at lw_m5 53 rfl) rfl
theorem q1105 : (Jvm.Cond.methodLink "ShoeHouse$Lending" (54 : Nat) ({ cls := "ShoeHouse$Lending", name := "law", desc := "(II)I" } : Jvm.MethodName)) ∈ lw_all := lw_g (lw_at lw_m5 54 rfl) rfl
theorem q1106 : (Jvm.Cond.privateMethod ({ cls := "ShoeHouse$Lending", name := "law", desc := "(II)I" } : Jvm.MethodName)) ∈ lw_tbl := lw_at lw_m5 55 rfl
theorem q1107 : (Jvm.Cond.instanceMethod ({ cls := "ShoeHouse$Lending", name := "law", desc := "(II)I" } : Jvm.MethodName)) ∈ lw_all := lw_g (lw_at lw_m5 56 rfl) rfl
theorem q1108 : (Jvm.Cond.code ({ cls := "ShoeHouse$Lending", name := "law", desc := "(II)I" } : Jvm.MethodName) prog_4_method_2_code (3 : Nat) (Option.some Jvm.ClassFile.FieldType.int)) ∈ lw_all := lw_g (lw_at lw_m5 57 rfl) rfl
theorem q1109 : (Jvm.Cond.methodLink "ShoeHouse$Lending" (48 : Nat) ({ cls := "ShoeHouse$House", name := "lawFor", desc := "(I)I" } : Jvm.MethodName)) ∈ lw_all := lw_g (lw_at lw_m5 58 rfl) rfl
theorem q1110 : (Jvm.Cond.methodLinkNest "ShoeHouse$Lending" (37 : Nat) ({ cls := "ShoeHouse", name := "shoes", desc := "(II)I" } : Jvm.MethodName) "ShoeHouse") ∈ lw_tbl := lw_at lw_m5 59 rfl
theorem q1111 : (Jvm.Cond.fieldLink "ShoeHouse$Lending" (22 : Nat) "ShoeHouse$Lending" "from" "I") ∈ lw_all := lw_g (lw_at lw_m5 60 rfl) rfl
theorem q1112 : (Jvm.Cond.fieldLink "ShoeHouse$Lending" (26 : Nat) "ShoeHouse$Lending" "to" "I") ∈ lw_all := lw_g (lw_at lw_m5 61 rfl) rfl
theorem q1113 : (Jvm.Cond.fieldLink "ShoeHouse$Lending" (15 : Nat) "ShoeHouse$Lending" "spare" "[I") ∈ lw_all := lw_g (lw_at lw_m5 62 rfl) rfl
theorem q1114 : (Jvm.Cond.fieldLink "ShoeHouse$Lending" (19 : Nat) "ShoeHouse$Lending" "row" "[I") ∈ lw_all := lw_g (lw_at lw_m5 63 rfl) rfl
theorem q1116 : (Jvm.Cond.fieldLink "ShoeHouse$Lending" (67 : Nat) "ShoeHouse$Lending" "many" "I") ∈ lw_all := lw_g (lw_at lw_m5 65 rfl) rfl
theorem q1118 : (Jvm.Cond.fieldLink "ShoeHouse$Lending" (3 : Nat) "ShoeHouse$Lending" "this$0" "LShoeHouse;") ∈ lw_all := lw_g (lw_at lw_m5 67 rfl) rfl
theorem q1119 : (Jvm.Cond.laysFinal "ShoeHouse$Lending" "ShoeHouse$Lending" "from" "I") ∈ lw_all := lw_g (lw_at lw_m5 68 rfl) rfl
theorem q1120 : (Jvm.Cond.soleField "ShoeHouse$Lending" "from") ∈ lw_all := lw_g (lw_at lw_m5 69 rfl) rfl
theorem q1121 : (Jvm.Cond.laysFinal "ShoeHouse$Lending" "ShoeHouse$Lending" "to" "I") ∈ lw_all := lw_g (lw_at lw_m5 70 rfl) rfl
theorem q1122 : (Jvm.Cond.soleField "ShoeHouse$Lending" "to") ∈ lw_all := lw_g (lw_at lw_m5 71 rfl) rfl
theorem q1123 : (Jvm.Cond.laysFinal "ShoeHouse$Lending" "ShoeHouse$Lending" "spare" "[I") ∈ lw_all := lw_g (lw_at lw_m5 72 rfl) rfl
theorem q1124 : (Jvm.Cond.soleField "ShoeHouse$Lending" "spare") ∈ lw_all := lw_g (lw_at lw_m5 73 rfl) rfl
theorem q1125 : (Jvm.Cond.laysFinal "ShoeHouse$Lending" "ShoeHouse$Lending" "row" "[I") ∈ lw_all := lw_g (lw_at lw_m5 74 rfl) rfl
theorem q1126 : (Jvm.Cond.soleField "ShoeHouse$Lending" "row") ∈ lw_all := lw_g (lw_at lw_m5 75 rfl) rfl
theorem q1127 : (Jvm.Cond.lays "ShoeHouse$Lending" "ShoeHouse$Lending" "many" "I") ∈ lw_all := lw_g (lw_at lw_m5 76 rfl) rfl
theorem q1128 : (Jvm.Cond.soleField "ShoeHouse$Lending" "many") ∈ lw_all := lw_g (lw_at lw_m5 77 rfl) rfl
theorem q1129 : (Jvm.Cond.laysFinal "ShoeHouse$Lending" "ShoeHouse$Lending" "this$0" "LShoeHouse;") ∈ lw_all := lw_g (lw_at lw_m5 78 rfl) rfl
theorem q1130 : (Jvm.Cond.soleField "ShoeHouse$Lending" "this$0") ∈ lw_all := lw_g (lw_at lw_m5 79 rfl) rfl
theorem q1131 : (Jvm.Cond.superclass "ShoeHouse$Lending" "java/lang/Object") ∈ lw_all := lw_g (lw_at lw_m5 80 rfl) rfl
theorem q1133 : (Jvm.Cond.instanceMethod ({ cls := "ShoeHouse$Lending", name := "go", desc := "(I)Z" } : Jvm.MethodName)) ∈ lw_all := lw_g (lw_at lw_m5 82 rfl) rfl
theorem q1134 : (Jvm.Cond.selects "ShoeHouse$Lending" ({ cls := "ShoeHouse$Lending", name := "go", desc := "(I)Z" } : Jvm.MethodName) ({ cls := "ShoeHouse$Lending", name := "go", desc := "(I)Z" } : Jvm.MethodName)) ∈ lw_all := lw_g (lw_at lw_m5 83 rfl) rfl
theorem q1135 : (Jvm.Cond.code ({ cls := "ShoeHouse$Lending", name := "go", desc := "(I)Z" } : Jvm.MethodName) prog_4_method_5_code (4 : Nat) (Option.some Jvm.ClassFile.FieldType.boolean)) ∈ lw_all := lw_g (lw_at lw_m5 84 rfl) rfl
theorem q1136 : (Jvm.Cond.methodLinkNest "ShoeHouse$Lending" (57 : Nat) ({ cls := "ShoeHouse", name := "feet", desc := "(I)I" } : Jvm.MethodName) "ShoeHouse") ∈ lw_tbl := lw_at lw_m5 85 rfl
theorem q1137 : (Jvm.Cond.methodLink "ShoeHouse$Lending" (60 : Nat) ({ cls := "ShoeHouse$Lending", name := "isFine", desc := "(II)Z" } : Jvm.MethodName)) ∈ lw_all := lw_g (lw_at lw_m5 86 rfl) rfl
theorem q1138 : (Jvm.Cond.privateMethod ({ cls := "ShoeHouse$Lending", name := "isFine", desc := "(II)Z" } : Jvm.MethodName)) ∈ lw_tbl := lw_at lw_m5 87 rfl
theorem q1139 : (Jvm.Cond.instanceMethod ({ cls := "ShoeHouse$Lending", name := "isFine", desc := "(II)Z" } : Jvm.MethodName)) ∈ lw_all := lw_g (lw_at lw_m5 88 rfl) rfl
theorem q1140 : (Jvm.Cond.code ({ cls := "ShoeHouse$Lending", name := "isFine", desc := "(II)Z" } : Jvm.MethodName) prog_4_method_4_code (4 : Nat) (Option.some Jvm.ClassFile.FieldType.boolean)) ∈ lw_all := lw_g (lw_at lw_m5 89 rfl) rfl
theorem q1141 : (Jvm.Cond.methodLink "ShoeHouse$Lending" (63 : Nat) ({ cls := "ShoeHouse$Lending", name := "go", desc := "(I)Z" } : Jvm.MethodName)) ∈ lw_all := lw_g (lw_at lw_m5 90 rfl) rfl
theorem q1796 : (Jvm.Cond.castable "ShoeHouse$Lending" "java/lang/Object") ∈ lw_tbl := lw_at lw_m8 25 rfl
theorem in_X10 : ∀ w ∈ wsX100, w ∈ lw_all := lw_in wsX100 [1119, 1121, 1123, 1125, 1127, 1129] (by decide +kernel) (by decide +kernel)
/-! ShoeHouse$House -/
def RX2 : String := "ShoeHouse$House"
def TX2 : u_T := fun k => match k with
  | 0 => ("ShoeHouse$House", "lodgers", "Ljava/util/List;", true)
  | 1 => ("ShoeHouse$House", "goods", "[I", true)
  | 2 => ("ShoeHouse$House", "begins", "[I", true)
  | 3 => ("ShoeHouse$House", "law", "[I", true)
  | 4 => ("ShoeHouse$House", "rooms", "I", false)
  | 5 => ("ShoeHouse$House", "finders", "I", false)
  | _ => ("ShoeHouse$House", "mays", "I", false)
def tyX2 : Nat → FieldType := fun k => match k with
  | 0 => .object "java/util/List"
  | 1 => .array .int
  | 2 => .array .int
  | 3 => .array .int
  | 4 => .int
  | 5 => .int
  | _ => .int
abbrev wsX20 : List Cond := u_ws RX2 TX2 7
theorem nmX2 : ∀ a, a < 7 → ∀ b, b < 7 → a ≠ b → (TX2 a).2.1 ≠ (TX2 b).2.1 := by decide +kernel
theorem tyX2_ok : ∀ k, k < 7 → parseFieldDescriptor (TX2 k).2.2.1 = some (tyX2 k) := by decide +kernel
abbrev cX2_init : ByteArray := prog_3_method_1_code
def yX2_init : MethodName := ⟨RX2, "<init>", "()V"⟩
abbrev cX2_lawFor : ByteArray := prog_3_method_3_code
def yX2_lawFor : MethodName := ⟨RX2, "lawFor", "(I)I"⟩
abbrev cX2_lodgerOf : ByteArray := prog_3_method_2_code
def yX2_lodgerOf : MethodName := ⟨RX2, "lodgerOf", "(I)I"⟩
theorem q93 : (Jvm.Cond.initialized "ShoeHouse$House") ∈ lw_all := lw_g (lw_at lw_m1 2 rfl) rfl
theorem q129 : (Jvm.Cond.instantiable "ShoeHouse$House" (7 : Nat)) ∈ lw_all := lw_g (lw_at lw_m1 38 rfl) rfl
theorem q131 : (Jvm.Cond.instanceMethod ({ cls := "ShoeHouse$House", name := "<init>", desc := "()V" } : Jvm.MethodName)) ∈ lw_all := lw_g (lw_at lw_m1 40 rfl) rfl
theorem q132 : (Jvm.Cond.code ({ cls := "ShoeHouse$House", name := "<init>", desc := "()V" } : Jvm.MethodName) prog_3_method_1_code (1 : Nat) (Option.none : Option Jvm.ClassFile.FieldType)) ∈ lw_all := lw_g (lw_at lw_m1 41 rfl) rfl
theorem q133 : (Jvm.Cond.methodLink "ShoeHouse$House" (3 : Nat) ({ cls := "java/lang/Object", name := "<init>", desc := "()V" } : Jvm.MethodName)) ∈ lw_all := lw_g (lw_at lw_m1 42 rfl) rfl
theorem q134 : (Jvm.Cond.classLink "ShoeHouse$House" (9 : Nat) "java/util/ArrayList") ∈ lw_all := lw_g (lw_at lw_m1 43 rfl) rfl
theorem q136 : (Jvm.Cond.methodLink "ShoeHouse$House" (11 : Nat) ({ cls := "java/util/ArrayList", name := "<init>", desc := "()V" } : Jvm.MethodName)) ∈ lw_all := lw_g (lw_at lw_m1 45 rfl) rfl
theorem q160 : (Jvm.Cond.fieldLink "ShoeHouse$House" (12 : Nat) "ShoeHouse$House" "lodgers" "Ljava/util/List;") ∈ lw_all := lw_g (lw_at lw_m1 69 rfl) rfl
theorem q163 : (Jvm.Cond.fieldLink "ShoeHouse$House" (18 : Nat) "ShoeHouse$House" "goods" "[I") ∈ lw_all := lw_g (lw_at lw_m1 72 rfl) rfl
theorem q166 : (Jvm.Cond.fieldLink "ShoeHouse$House" (22 : Nat) "ShoeHouse$House" "begins" "[I") ∈ lw_all := lw_g (lw_at lw_m1 75 rfl) rfl
theorem q169 : (Jvm.Cond.fieldLink "ShoeHouse$House" (25 : Nat) "ShoeHouse$House" "law" "[I") ∈ lw_all := lw_g (lw_at lw_m1 78 rfl) rfl
theorem q180 : (Jvm.Cond.laysFinal "ShoeHouse$House" "ShoeHouse$House" "lodgers" "Ljava/util/List;") ∈ lw_all := lw_g (lw_at lw_m1 89 rfl) rfl
theorem q181 : (Jvm.Cond.soleField "ShoeHouse$House" "lodgers") ∈ lw_all := lw_g (lw_at lw_m1 90 rfl) rfl
theorem q182 : (Jvm.Cond.laysFinal "ShoeHouse$House" "ShoeHouse$House" "goods" "[I") ∈ lw_all := lw_g (lw_at lw_m1 91 rfl) rfl
theorem q183 : (Jvm.Cond.soleField "ShoeHouse$House" "goods") ∈ lw_all := lw_g (lw_at lw_m1 92 rfl) rfl
theorem q184 : (Jvm.Cond.laysFinal "ShoeHouse$House" "ShoeHouse$House" "begins" "[I") ∈ lw_all := lw_g (lw_at lw_m1 93 rfl) rfl
theorem q185 : (Jvm.Cond.soleField "ShoeHouse$House" "begins") ∈ lw_all := lw_g (lw_at lw_m1 94 rfl) rfl
theorem q186 : (Jvm.Cond.laysFinal "ShoeHouse$House" "ShoeHouse$House" "law" "[I") ∈ lw_all := lw_g (lw_at lw_m1 95 rfl) rfl
theorem q187 : (Jvm.Cond.soleField "ShoeHouse$House" "law") ∈ lw_all := lw_g (lw_at lw_m1 96 rfl) rfl
theorem q188 : (Jvm.Cond.lays "ShoeHouse$House" "ShoeHouse$House" "rooms" "I") ∈ lw_all := lw_g (lw_at lw_m1 97 rfl) rfl
theorem q189 : (Jvm.Cond.soleField "ShoeHouse$House" "rooms") ∈ lw_all := lw_g (lw_at lw_m1 98 rfl) rfl
theorem q190 : (Jvm.Cond.lays "ShoeHouse$House" "ShoeHouse$House" "finders" "I") ∈ lw_all := lw_g (lw_at lw_m1 99 rfl) rfl
theorem q191 : (Jvm.Cond.soleField "ShoeHouse$House" "finders") ∈ lw_all := lw_g (lw_at lw_m1 100 rfl) rfl
theorem q192 : (Jvm.Cond.lays "ShoeHouse$House" "ShoeHouse$House" "mays" "I") ∈ lw_all := lw_g (lw_at lw_m1 101 rfl) rfl
theorem q193 : (Jvm.Cond.soleField "ShoeHouse$House" "mays") ∈ lw_all := lw_g (lw_at lw_m1 102 rfl) rfl
theorem q194 : (Jvm.Cond.superclass "ShoeHouse$House" "java/lang/Object") ∈ lw_all := lw_g (lw_at lw_m1 103 rfl) rfl
theorem q388 : (Jvm.Cond.instanceMethod ({ cls := "ShoeHouse$House", name := "lawFor", desc := "(I)I" } : Jvm.MethodName)) ∈ lw_all := lw_g (lw_at lw_m2 57 rfl) rfl
theorem q389 : (Jvm.Cond.selects "ShoeHouse$House" ({ cls := "ShoeHouse$House", name := "lawFor", desc := "(I)I" } : Jvm.MethodName) ({ cls := "ShoeHouse$House", name := "lawFor", desc := "(I)I" } : Jvm.MethodName)) ∈ lw_all := lw_g (lw_at lw_m2 58 rfl) rfl
theorem q390 : (Jvm.Cond.code ({ cls := "ShoeHouse$House", name := "lawFor", desc := "(I)I" } : Jvm.MethodName) prog_3_method_3_code (2 : Nat) (Option.some Jvm.ClassFile.FieldType.int)) ∈ lw_all := lw_g (lw_at lw_m2 59 rfl) rfl
theorem q401 : (Jvm.Cond.instanceMethod ({ cls := "ShoeHouse$House", name := "lodgerOf", desc := "(I)I" } : Jvm.MethodName)) ∈ lw_all := lw_g (lw_at lw_m2 70 rfl) rfl
theorem q402 : (Jvm.Cond.selects "ShoeHouse$House" ({ cls := "ShoeHouse$House", name := "lodgerOf", desc := "(I)I" } : Jvm.MethodName) ({ cls := "ShoeHouse$House", name := "lodgerOf", desc := "(I)I" } : Jvm.MethodName)) ∈ lw_all := lw_g (lw_at lw_m2 71 rfl) rfl
theorem q403 : (Jvm.Cond.code ({ cls := "ShoeHouse$House", name := "lodgerOf", desc := "(I)I" } : Jvm.MethodName) prog_3_method_2_code (3 : Nat) (Option.some Jvm.ClassFile.FieldType.int)) ∈ lw_all := lw_g (lw_at lw_m2 72 rfl) rfl
theorem q404 : (Jvm.Cond.interfaceEntry "ShoeHouse$House" (28 : Nat)) ∈ lw_tbl := lw_at lw_m2 73 rfl
theorem q405 : (Jvm.Cond.methodLink "ShoeHouse$House" (28 : Nat) ({ cls := "java/util/List", name := "size", desc := "()I" } : Jvm.MethodName)) ∈ lw_all := lw_g (lw_at lw_m2 74 rfl) rfl
theorem q406 : (Jvm.Cond.interfaceEntry "ShoeHouse$House" (34 : Nat)) ∈ lw_tbl := lw_at lw_m2 75 rfl
theorem q407 : (Jvm.Cond.methodLink "ShoeHouse$House" (34 : Nat) ({ cls := "java/util/List", name := "get", desc := "(I)Ljava/lang/Object;" } : Jvm.MethodName)) ∈ lw_all := lw_g (lw_at lw_m2 76 rfl) rfl
theorem q408 : (Jvm.Cond.classLink "ShoeHouse$House" (38 : Nat) "ShoeHouse$Lodger") ∈ lw_all := lw_g (lw_at lw_m2 77 rfl) rfl
theorem q446 : (Jvm.Cond.selects "ShoeHouse$House" ({ cls := "java/lang/Object", name := "getClass", desc := "()Ljava/lang/Class;" } : Jvm.MethodName) ({ cls := "java/lang/Object", name := "getClass", desc := "()Ljava/lang/Class;" } : Jvm.MethodName)) ∈ lw_all := lw_g (lw_at lw_m2 115 rfl) rfl
theorem q732 : (Jvm.Cond.fieldLinkNest "ShoeHouse$House" (40 : Nat) "ShoeHouse$Lodger" "room" "I" "ShoeHouse") ∈ lw_tbl := lw_at lw_m3 161 rfl
theorem q1785 : (Jvm.Cond.castable "ShoeHouse$House" "java/lang/Object") ∈ lw_tbl := lw_at lw_m8 14 rfl
theorem in_X2 : ∀ w ∈ wsX20, w ∈ lw_all := lw_in wsX20 [180, 182, 184, 186, 188, 190, 192] (by decide +kernel) (by decide +kernel)
/-! ShoeHouseModel -/
def RX3 : String := "ShoeHouseModel"
def TX3 : u_T := fun k => match k with
  | 0 => ("ShoeHouseModel", "thrown", "I", false)
  | 1 => ("ShoeHouseModel", "rooms", "I", false)
  | 2 => ("ShoeHouseModel", "lodgers", "I", false)
  | 3 => ("ShoeHouseModel", "finders", "I", false)
  | 4 => ("ShoeHouseModel", "mays", "I", false)
  | 5 => ("ShoeHouseModel", "goods", "[I", true)
  | 6 => ("ShoeHouseModel", "whose", "[I", true)
  | 7 => ("ShoeHouseModel", "home", "[I", true)
  | 8 => ("ShoeHouseModel", "shoes", "[I", true)
  | 9 => ("ShoeHouseModel", "begins", "[I", true)
  | 10 => ("ShoeHouseModel", "law", "[I", true)
  | 11 => ("ShoeHouseModel", "may", "[I", true)
  | 12 => ("ShoeHouseModel", "tape", "[I", true)
  | 13 => ("ShoeHouseModel", "taped", "I", false)
  | 14 => ("ShoeHouseModel", "faultKind", "I", false)
  | 15 => ("ShoeHouseModel", "faultPlace", "I", false)
  | 16 => ("ShoeHouseModel", "refused", "[I", true)
  | 17 => ("ShoeHouseModel", "size", "I", false)
  | 18 => ("ShoeHouseModel", "next", "I", false)
  | 19 => ("ShoeHouseModel", "sort", "I", false)
  | 20 => ("ShoeHouseModel", "place", "I", false)
  | 21 => ("ShoeHouseModel", "long0", "I", false)
  | 22 => ("ShoeHouseModel", "value", "I", false)
  | 23 => ("ShoeHouseModel", "word", "J", false)
  | 24 => ("ShoeHouseModel", "newRooms", "I", false)
  | 25 => ("ShoeHouseModel", "newLodgers", "I", false)
  | 26 => ("ShoeHouseModel", "newFinders", "I", false)
  | 27 => ("ShoeHouseModel", "newMays", "I", false)
  | 28 => ("ShoeHouseModel", "toldLaw", "I", false)
  | 29 => ("ShoeHouseModel", "newGoods", "[I", true)
  | 30 => ("ShoeHouseModel", "newWhose", "[I", true)
  | 31 => ("ShoeHouseModel", "newHome", "[I", true)
  | 32 => ("ShoeHouseModel", "newShoes", "[I", true)
  | 33 => ("ShoeHouseModel", "newBegins", "[I", true)
  | 34 => ("ShoeHouseModel", "newLaw", "[I", true)
  | 35 => ("ShoeHouseModel", "newMay", "[I", true)
  | 36 => ("ShoeHouseModel", "lent", "I", false)
  | 37 => ("ShoeHouseModel", "lending", "[I", true)
  | 38 => ("ShoeHouseModel", "day", "[I", true)
  | 39 => ("ShoeHouseModel", "looks", "[I", true)
  | 40 => ("ShoeHouseModel", "seenHour", "I", false)
  | 41 => ("ShoeHouseModel", "seenRooms", "I", false)
  | 42 => ("ShoeHouseModel", "seen", "[I", true)
  | 43 => ("ShoeHouseModel", "act", "[I", true)
  | 44 => ("ShoeHouseModel", "caseOf", "[I", true)
  | 45 => ("ShoeHouseModel", "cases", "I", false)
  | 46 => ("ShoeHouseModel", "doors", "[I", true)
  | 47 => ("ShoeHouseModel", "real", "[I", true)
  | 48 => ("ShoeHouseModel", "gains", "[I", true)
  | 49 => ("ShoeHouseModel", "path", "[I", true)
  | 50 => ("ShoeHouseModel", "kept", "[I", true)
  | 51 => ("ShoeHouseModel", "keptLook", "[I", true)
  | 52 => ("ShoeHouseModel", "pathLong", "I", false)
  | 53 => ("ShoeHouseModel", "spot", "[I", true)
  | 54 => ("ShoeHouseModel", "firstSpot", "[I", true)
  | 55 => ("ShoeHouseModel", "worth", "[I", true)
  | 56 => ("ShoeHouseModel", "hasLending", "Z", false)
  | 57 => ("ShoeHouseModel", "gets", "[I", true)
  | 58 => ("ShoeHouseModel", "keptGets", "[I", true)
  | 59 => ("ShoeHouseModel", "from", "I", false)
  | 60 => ("ShoeHouseModel", "to", "I", false)
  | 61 => ("ShoeHouseModel", "words", "[I", true)
  | 62 => ("ShoeHouseModel", "many", "I", false)
  | 63 => ("ShoeHouseModel", "hasImage", "Z", false)
  | 64 => ("ShoeHouseModel", "imageOf", "[I", true)
  | 65 => ("ShoeHouseModel", "imageLending", "[I", true)
  | 66 => ("ShoeHouseModel", "imageSeen", "[I", true)
  | 67 => ("ShoeHouseModel", "imageDay", "[I", true)
  | _ => ("ShoeHouseModel", "imageLooks", "[I", true)
def tyX3 : Nat → FieldType := fun k => match k with
  | 0 => .int
  | 1 => .int
  | 2 => .int
  | 3 => .int
  | 4 => .int
  | 5 => .array .int
  | 6 => .array .int
  | 7 => .array .int
  | 8 => .array .int
  | 9 => .array .int
  | 10 => .array .int
  | 11 => .array .int
  | 12 => .array .int
  | 13 => .int
  | 14 => .int
  | 15 => .int
  | 16 => .array .int
  | 17 => .int
  | 18 => .int
  | 19 => .int
  | 20 => .int
  | 21 => .int
  | 22 => .int
  | 23 => .long
  | 24 => .int
  | 25 => .int
  | 26 => .int
  | 27 => .int
  | 28 => .int
  | 29 => .array .int
  | 30 => .array .int
  | 31 => .array .int
  | 32 => .array .int
  | 33 => .array .int
  | 34 => .array .int
  | 35 => .array .int
  | 36 => .int
  | 37 => .array .int
  | 38 => .array .int
  | 39 => .array .int
  | 40 => .int
  | 41 => .int
  | 42 => .array .int
  | 43 => .array .int
  | 44 => .array .int
  | 45 => .int
  | 46 => .array .int
  | 47 => .array .int
  | 48 => .array .int
  | 49 => .array .int
  | 50 => .array .int
  | 51 => .array .int
  | 52 => .int
  | 53 => .array .int
  | 54 => .array .int
  | 55 => .array .int
  | 56 => .boolean
  | 57 => .array .int
  | 58 => .array .int
  | 59 => .int
  | 60 => .int
  | 61 => .array .int
  | 62 => .int
  | 63 => .boolean
  | 64 => .array .int
  | 65 => .array .int
  | 66 => .array .int
  | 67 => .array .int
  | _ => .array .int
abbrev wsX30 : List Cond := u_ws RX3 TX3 69
theorem nmX3 : ∀ a, a < 69 → ∀ b, b < 69 → a ≠ b → (TX3 a).2.1 ≠ (TX3 b).2.1 := by decide +kernel
theorem tyX3_ok : ∀ k, k < 69 → parseFieldDescriptor (TX3 k).2.2.1 = some (tyX3 k) := by decide +kernel
abbrev cX3_init : ByteArray := prog_11_method_1_code
def yX3_init : MethodName := ⟨RX3, "<init>", "()V"⟩
abbrev cX3_thrown : ByteArray := prog_11_method_2_code
def yX3_thrown : MethodName := ⟨RX3, "thrown", "()I"⟩
abbrev cX3_feed : ByteArray := prog_11_method_8_code
def yX3_feed : MethodName := ⟨RX3, "feed", "(IIIII)I"⟩
abbrev cX3_lays : ByteArray := prog_11_method_9_code
def yX3_lays : MethodName := ⟨RX3, "lays", "(I)V"⟩
abbrev cX3_house : ByteArray := prog_11_method_27_code
def yX3_house : MethodName := ⟨RX3, "house", "(I)I"⟩
abbrev cX3_right : ByteArray := prog_11_method_3_code
def yX3_right : MethodName := ⟨RX3, "right", "(ZI)Z"⟩
abbrev cX3_steps : ByteArray := prog_11_method_13_code
def yX3_steps : MethodName := ⟨RX3, "steps", "()V"⟩
abbrev cX3_byteAt : ByteArray := prog_11_method_10_code
def yX3_byteAt : MethodName := ⟨RX3, "byteAt", "(I)I"⟩
abbrev cX3_isLetter : ByteArray := prog_11_method_11_code
def yX3_isLetter : MethodName := ⟨RX3, "isLetter", "(I)Z"⟩
abbrev cX3_isDigit : ByteArray := prog_11_method_12_code
def yX3_isDigit : MethodName := ⟨RX3, "isDigit", "(I)Z"⟩
abbrev cX3_isGood : ByteArray := prog_11_method_18_code
def yX3_isGood : MethodName := ⟨RX3, "isGood", "()Z"⟩
abbrev cX3_line : ByteArray := prog_11_method_26_code
def yX3_line : MethodName := ⟨RX3, "line", "()V"⟩
abbrev cX3_is : ByteArray := prog_11_method_16_code
def yX3_is : MethodName := ⟨RX3, "is", "(I)Z"⟩
abbrev cX3_letters : ByteArray := prog_11_method_15_code
def yX3_letters : MethodName := ⟨RX3, "letters", "(I)J"⟩
abbrev cX3_spelled : ByteArray := prog_11_method_14_code
def yX3_spelled : MethodName := ⟨RX3, "spelled", "(IIIIII)J"⟩
abbrev cX3_wrong : ByteArray := prog_11_method_17_code
def yX3_wrong : MethodName := ⟨RX3, "wrong", "(I)V"⟩
abbrev cX3_number : ByteArray := prog_11_method_20_code
def yX3_number : MethodName := ⟨RX3, "number", "(II)I"⟩
abbrev cX3_readsLodger : ByteArray := prog_11_method_24_code
def yX3_readsLodger : MethodName := ⟨RX3, "readsLodger", "()V"⟩
abbrev cX3_amongHere : ByteArray := prog_11_method_21_code
def yX3_amongHere : MethodName := ⟨RX3, "amongHere", "(I)Z"⟩
abbrev cX3_among : ByteArray := prog_11_method_22_code
def yX3_among : MethodName := ⟨RX3, "among", "(I)I"⟩
abbrev cX3_readsMay : ByteArray := prog_11_method_25_code
def yX3_readsMay : MethodName := ⟨RX3, "readsMay", "()V"⟩
abbrev cX3_oneOf : ByteArray := prog_11_method_23_code
def yX3_oneOf : MethodName := ⟨RX3, "oneOf", "(II)I"⟩
abbrev cX3_need : ByteArray := prog_11_method_19_code
def yX3_need : MethodName := ⟨RX3, "need", "(Z)V"⟩
abbrev cX3_copies : ByteArray := prog_11_method_7_code
def yX3_copies : MethodName := ⟨RX3, "copies", "([I[I)V"⟩
abbrev cX3_lowest : ByteArray := prog_11_method_29_code
def yX3_lowest : MethodName := ⟨RX3, "lowest", "(I)I"⟩
abbrev cX3_fault : ByteArray := prog_11_method_28_code
def yX3_fault : MethodName := ⟨RX3, "fault", "()I"⟩
abbrev cX3_count : ByteArray := prog_11_method_30_code
def yX3_count : MethodName := ⟨RX3, "count", "(I)I"⟩
abbrev cX3_within : ByteArray := prog_11_method_4_code
def yX3_within : MethodName := ⟨RX3, "within", "(III)Z"⟩
abbrev cX3_room : ByteArray := prog_11_method_36_code
def yX3_room : MethodName := ⟨RX3, "room", "(II)I"⟩
abbrev cX3_isRoom : ByteArray := prog_11_method_31_code
def yX3_isRoom : MethodName := ⟨RX3, "isRoom", "(I)Z"⟩
abbrev cX3_isTwo : ByteArray := prog_11_method_35_code
def yX3_isTwo : MethodName := ⟨RX3, "isTwo", "(I)Z"⟩
abbrev cX3_lodger : ByteArray := prog_11_method_41_code
def yX3_lodger : MethodName := ⟨RX3, "lodger", "(II)I"⟩
abbrev cX3_isLodger : ByteArray := prog_11_method_32_code
def yX3_isLodger : MethodName := ⟨RX3, "isLodger", "(I)Z"⟩
abbrev cX3_has : ByteArray := prog_11_method_37_code
def yX3_has : MethodName := ⟨RX3, "has", "(II)I"⟩
abbrev cX3_may : ByteArray := prog_11_method_43_code
def yX3_may : MethodName := ⟨RX3, "may", "(III)I"⟩
abbrev cX3_isHour : ByteArray := prog_11_method_34_code
def yX3_isHour : MethodName := ⟨RX3, "isHour", "(I)Z"⟩
abbrev cX3_bits : ByteArray := prog_11_method_6_code
def yX3_bits : MethodName := ⟨RX3, "bits", "(I)I"⟩
abbrev cX3_toldOf : ByteArray := prog_11_method_42_code
def yX3_toldOf : MethodName := ⟨RX3, "toldOf", "(I)I"⟩
abbrev cX3_says : ByteArray := prog_11_method_44_code
def yX3_says : MethodName := ⟨RX3, "says", "(II)I"⟩
abbrev cX3_signOf : ByteArray := prog_11_method_40_code
def yX3_signOf : MethodName := ⟨RX3, "signOf", "(II)I"⟩
abbrev cX3_lawOf : ByteArray := prog_11_method_39_code
def yX3_lawOf : MethodName := ⟨RX3, "lawOf", "(I)I"⟩
abbrev cX3_both : ByteArray := prog_11_method_38_code
def yX3_both : MethodName := ⟨RX3, "both", "(I)I"⟩
abbrev cX3_lend : ByteArray := prog_11_method_46_code
def yX3_lend : MethodName := ⟨RX3, "lend", "(III)I"⟩
abbrev cX3_refuses : ByteArray := prog_11_method_45_code
def yX3_refuses : MethodName := ⟨RX3, "refuses", "(I)I"⟩
abbrev cX3_back : ByteArray := prog_11_method_47_code
def yX3_back : MethodName := ⟨RX3, "back", "()I"⟩
abbrev cX3_draw : ByteArray := prog_11_method_48_code
def yX3_draw : MethodName := ⟨RX3, "draw", "(I)V"⟩
abbrev cX3_does : ByteArray := prog_11_method_49_code
def yX3_does : MethodName := ⟨RX3, "does", "(II)I"⟩
abbrev cX3_sign : ByteArray := prog_11_method_51_code
def yX3_sign : MethodName := ⟨RX3, "sign", "(II)I"⟩
abbrev cX3_signAt : ByteArray := prog_11_method_50_code
def yX3_signAt : MethodName := ⟨RX3, "signAt", "(II)I"⟩
abbrev cX3_look : ByteArray := prog_11_method_52_code
def yX3_look : MethodName := ⟨RX3, "look", "(III)I"⟩
abbrev cX3_isFinder : ByteArray := prog_11_method_33_code
def yX3_isFinder : MethodName := ⟨RX3, "isFinder", "(I)Z"⟩
abbrev cX3_theft : ByteArray := prog_11_method_53_code
def yX3_theft : MethodName := ⟨RX3, "theft", "(II)I"⟩
abbrev cX3_see : ByteArray := prog_11_method_54_code
def yX3_see : MethodName := ⟨RX3, "see", "(III)I"⟩
abbrev cX3_forget : ByteArray := prog_11_method_55_code
def yX3_forget : MethodName := ⟨RX3, "forget", "()I"⟩
abbrev cX3_cases : ByteArray := prog_11_method_62_code
def yX3_cases : MethodName := ⟨RX3, "cases", "()I"⟩
abbrev cX3_hour : ByteArray := prog_11_method_56_code
def yX3_hour : MethodName := ⟨RX3, "hour", "()I"⟩
abbrev cX3_isSpent : ByteArray := prog_11_method_59_code
def yX3_isSpent : MethodName := ⟨RX3, "isSpent", "(I)Z"⟩
abbrev cX3_seeks : ByteArray := prog_11_method_61_code
def yX3_seeks : MethodName := ⟨RX3, "seeks", "(II[I)V"⟩
abbrev cX3_fits : ByteArray := prog_11_method_60_code
def yX3_fits : MethodName := ⟨RX3, "fits", "(I[I)Z"⟩
abbrev cX3_counts : ByteArray := prog_11_method_58_code
def yX3_counts : MethodName := ⟨RX3, "counts", "(I)Z"⟩
abbrev cX3_behind : ByteArray := prog_11_method_57_code
def yX3_behind : MethodName := ⟨RX3, "behind", "(III)I"⟩
abbrev cX3_inCase : ByteArray := prog_11_method_63_code
def yX3_inCase : MethodName := ⟨RX3, "inCase", "(II)I"⟩
abbrev cX3_sure : ByteArray := prog_11_method_67_code
def yX3_sure : MethodName := ⟨RX3, "sure", "(I)I"⟩
abbrev cX3_with : ByteArray := prog_11_method_66_code
def yX3_with : MethodName := ⟨RX3, "with", "(I)I"⟩
abbrev cX3_isSomebody : ByteArray := prog_11_method_65_code
def yX3_isSomebody : MethodName := ⟨RX3, "isSomebody", "(II)Z"⟩
abbrev cX3_roomOf : ByteArray := prog_11_method_64_code
def yX3_roomOf : MethodName := ⟨RX3, "roomOf", "(II)I"⟩
abbrev cX3_where : ByteArray := prog_11_method_68_code
def yX3_where : MethodName := ⟨RX3, "where", "(I)I"⟩
abbrev cX3_misled : ByteArray := prog_11_method_72_code
def yX3_misled : MethodName := ⟨RX3, "misled", "(III)I"⟩
abbrev cX3_misleads : ByteArray := prog_11_method_71_code
def yX3_misleads : MethodName := ⟨RX3, "misleads", "(III)Z"⟩
abbrev cX3_another : ByteArray := prog_11_method_70_code
def yX3_another : MethodName := ⟨RX3, "another", "(II)I"⟩
abbrev cX3_turnsDoors : ByteArray := prog_11_method_69_code
def yX3_turnsDoors : MethodName := ⟨RX3, "turnsDoors", "(I)Z"⟩
abbrev cX3_chance : ByteArray := prog_11_method_74_code
def yX3_chance : MethodName := ⟨RX3, "chance", "(II)I"⟩
abbrev cX3_chanceOf : ByteArray := prog_11_method_73_code
def yX3_chanceOf : MethodName := ⟨RX3, "chanceOf", "(II)I"⟩
abbrev cX3_round : ByteArray := prog_11_method_78_code
def yX3_round : MethodName := ⟨RX3, "round", "(III)I"⟩
abbrev cX3_all : ByteArray := prog_11_method_76_code
def yX3_all : MethodName := ⟨RX3, "all", "(I)I"⟩
abbrev cX3_bestOf : ByteArray := prog_11_method_75_code
def yX3_bestOf : MethodName := ⟨RX3, "bestOf", "(II)I"⟩
abbrev cX3_turnsPath : ByteArray := prog_11_method_77_code
def yX3_turnsPath : MethodName := ⟨RX3, "turnsPath", "(I)Z"⟩
abbrev cX3_path : ByteArray := prog_11_method_79_code
def yX3_path : MethodName := ⟨RX3, "path", "(II)I"⟩
abbrev cX3_rests : ByteArray := prog_11_method_82_code
def yX3_rests : MethodName := ⟨RX3, "rests", "(III)I"⟩
abbrev cX3_isRest : ByteArray := prog_11_method_81_code
def yX3_isRest : MethodName := ⟨RX3, "isRest", "(I)Z"⟩
abbrev cX3_there : ByteArray := prog_11_method_80_code
def yX3_there : MethodName := ⟨RX3, "there", "(II)I"⟩
abbrev cX3_fewest : ByteArray := prog_11_method_87_code
def yX3_fewest : MethodName := ⟨RX3, "fewest", "(II)I"⟩
abbrev cX3_isNeedy : ByteArray := prog_11_method_83_code
def yX3_isNeedy : MethodName := ⟨RX3, "isNeedy", "(II)Z"⟩
abbrev cX3_lendable : ByteArray := prog_11_method_86_code
def yX3_lendable : MethodName := ⟨RX3, "lendable", "(II)I"⟩
abbrev cX3_isFree : ByteArray := prog_11_method_84_code
def yX3_isFree : MethodName := ⟨RX3, "isFree", "(II)Z"⟩
abbrev cX3_given : ByteArray := prog_11_method_85_code
def yX3_given : MethodName := ⟨RX3, "given", "(II)I"⟩
abbrev cX3_lender : ByteArray := prog_11_method_88_code
def yX3_lender : MethodName := ⟨RX3, "lender", "(I)I"⟩
abbrev cX3_kinds : ByteArray := prog_11_method_92_code
def yX3_kinds : MethodName := ⟨RX3, "kinds", "(II)I"⟩
abbrev cX3_isCode : ByteArray := prog_11_method_91_code
def yX3_isCode : MethodName := ⟨RX3, "isCode", "(II)Z"⟩
abbrev cX3_spells : ByteArray := prog_11_method_90_code
def yX3_spells : MethodName := ⟨RX3, "spells", "(I)V"⟩
abbrev cX3_apart : ByteArray := prog_11_method_89_code
def yX3_apart : MethodName := ⟨RX3, "apart", "(II)I"⟩
abbrev cX3_word : ByteArray := prog_11_method_93_code
def yX3_word : MethodName := ⟨RX3, "word", "(II)I"⟩
abbrev cX3_mend : ByteArray := prog_11_method_94_code
def yX3_mend : MethodName := ⟨RX3, "mend", "(III)I"⟩
abbrev cX3_fire : ByteArray := prog_11_method_95_code
def yX3_fire : MethodName := ⟨RX3, "fire", "(IIIII)J"⟩
abbrev cX3_off : ByteArray := prog_11_method_5_code
def yX3_off : MethodName := ⟨RX3, "off", "(II)I"⟩
abbrev cX3_image : ByteArray := prog_11_method_96_code
def yX3_image : MethodName := ⟨RX3, "image", "()V"⟩
abbrev cX3_restore : ByteArray := prog_11_method_97_code
def yX3_restore : MethodName := ⟨RX3, "restore", "()Z"⟩
theorem q97 : (Jvm.Cond.initialized "ShoeHouseModel") ∈ lw_all := lw_g (lw_at lw_m1 6 rfl) rfl
theorem q453 : (Jvm.Cond.selects "ShoeHouseModel" ({ cls := "java/lang/Object", name := "getClass", desc := "()Ljava/lang/Class;" } : Jvm.MethodName) ({ cls := "java/lang/Object", name := "getClass", desc := "()Ljava/lang/Class;" } : Jvm.MethodName)) ∈ lw_all := lw_g (lw_at lw_m2 122 rfl) rfl
theorem q1192 : (Jvm.Cond.instantiable "ShoeHouseModel" (69 : Nat)) ∈ lw_all := lw_g (lw_at lw_m5 141 rfl) rfl
theorem q1194 : (Jvm.Cond.instanceMethod ({ cls := "ShoeHouseModel", name := "<init>", desc := "()V" } : Jvm.MethodName)) ∈ lw_all := lw_g (lw_at lw_m5 143 rfl) rfl
theorem q1195 : (Jvm.Cond.code ({ cls := "ShoeHouseModel", name := "<init>", desc := "()V" } : Jvm.MethodName) prog_11_method_1_code (1 : Nat) (Option.none : Option Jvm.ClassFile.FieldType)) ∈ lw_all := lw_g (lw_at lw_m5 144 rfl) rfl
theorem q1196 : (Jvm.Cond.methodLink "ShoeHouseModel" (1 : Nat) ({ cls := "java/lang/Object", name := "<init>", desc := "()V" } : Jvm.MethodName)) ∈ lw_all := lw_g (lw_at lw_m5 145 rfl) rfl
theorem q1197 : (Jvm.Cond.fieldLink "ShoeHouseModel" (134 : Nat) "ShoeHouseModel" "thrown" "I") ∈ lw_all := lw_g (lw_at lw_m5 146 rfl) rfl
theorem q1198 : (Jvm.Cond.fieldLink "ShoeHouseModel" (248 : Nat) "ShoeHouseModel" "rooms" "I") ∈ lw_all := lw_g (lw_at lw_m5 147 rfl) rfl
theorem q1199 : (Jvm.Cond.fieldLink "ShoeHouseModel" (251 : Nat) "ShoeHouseModel" "lodgers" "I") ∈ lw_all := lw_g (lw_at lw_m5 148 rfl) rfl
theorem q1200 : (Jvm.Cond.fieldLink "ShoeHouseModel" (254 : Nat) "ShoeHouseModel" "finders" "I") ∈ lw_all := lw_g (lw_at lw_m5 149 rfl) rfl
theorem q1201 : (Jvm.Cond.fieldLink "ShoeHouseModel" (257 : Nat) "ShoeHouseModel" "mays" "I") ∈ lw_all := lw_g (lw_at lw_m5 150 rfl) rfl
theorem q1202 : (Jvm.Cond.fieldLink "ShoeHouseModel" (7 : Nat) "ShoeHouseModel" "goods" "[I") ∈ lw_all := lw_g (lw_at lw_m5 151 rfl) rfl
theorem q1203 : (Jvm.Cond.fieldLink "ShoeHouseModel" (13 : Nat) "ShoeHouseModel" "whose" "[I") ∈ lw_all := lw_g (lw_at lw_m5 152 rfl) rfl
theorem q1204 : (Jvm.Cond.fieldLink "ShoeHouseModel" (16 : Nat) "ShoeHouseModel" "home" "[I") ∈ lw_all := lw_g (lw_at lw_m5 153 rfl) rfl
theorem q1205 : (Jvm.Cond.fieldLink "ShoeHouseModel" (19 : Nat) "ShoeHouseModel" "shoes" "[I") ∈ lw_all := lw_g (lw_at lw_m5 154 rfl) rfl
theorem q1206 : (Jvm.Cond.fieldLink "ShoeHouseModel" (22 : Nat) "ShoeHouseModel" "begins" "[I") ∈ lw_all := lw_g (lw_at lw_m5 155 rfl) rfl
theorem q1207 : (Jvm.Cond.fieldLink "ShoeHouseModel" (25 : Nat) "ShoeHouseModel" "law" "[I") ∈ lw_all := lw_g (lw_at lw_m5 156 rfl) rfl
theorem q1208 : (Jvm.Cond.fieldLink "ShoeHouseModel" (28 : Nat) "ShoeHouseModel" "may" "[I") ∈ lw_all := lw_g (lw_at lw_m5 157 rfl) rfl
theorem q1209 : (Jvm.Cond.fieldLink "ShoeHouseModel" (31 : Nat) "ShoeHouseModel" "tape" "[I") ∈ lw_all := lw_g (lw_at lw_m5 158 rfl) rfl
theorem q1210 : (Jvm.Cond.fieldLink "ShoeHouseModel" (137 : Nat) "ShoeHouseModel" "taped" "I") ∈ lw_all := lw_g (lw_at lw_m5 159 rfl) rfl
theorem q1211 : (Jvm.Cond.fieldLink "ShoeHouseModel" (187 : Nat) "ShoeHouseModel" "faultKind" "I") ∈ lw_all := lw_g (lw_at lw_m5 160 rfl) rfl
theorem q1212 : (Jvm.Cond.fieldLink "ShoeHouseModel" (34 : Nat) "ShoeHouseModel" "faultPlace" "I") ∈ lw_all := lw_g (lw_at lw_m5 161 rfl) rfl
theorem q1213 : (Jvm.Cond.fieldLink "ShoeHouseModel" (38 : Nat) "ShoeHouseModel" "refused" "[I") ∈ lw_all := lw_g (lw_at lw_m5 162 rfl) rfl
theorem q1214 : (Jvm.Cond.fieldLink "ShoeHouseModel" (144 : Nat) "ShoeHouseModel" "size" "I") ∈ lw_all := lw_g (lw_at lw_m5 163 rfl) rfl
theorem q1215 : (Jvm.Cond.fieldLink "ShoeHouseModel" (147 : Nat) "ShoeHouseModel" "next" "I") ∈ lw_all := lw_g (lw_at lw_m5 164 rfl) rfl
theorem q1216 : (Jvm.Cond.fieldLink "ShoeHouseModel" (164 : Nat) "ShoeHouseModel" "sort" "I") ∈ lw_all := lw_g (lw_at lw_m5 165 rfl) rfl
theorem q1217 : (Jvm.Cond.fieldLink "ShoeHouseModel" (154 : Nat) "ShoeHouseModel" "place" "I") ∈ lw_all := lw_g (lw_at lw_m5 166 rfl) rfl
theorem q1218 : (Jvm.Cond.fieldLink "ShoeHouseModel" (174 : Nat) "ShoeHouseModel" "long0" "I") ∈ lw_all := lw_g (lw_at lw_m5 167 rfl) rfl
theorem q1219 : (Jvm.Cond.fieldLink "ShoeHouseModel" (161 : Nat) "ShoeHouseModel" "value" "I") ∈ lw_all := lw_g (lw_at lw_m5 168 rfl) rfl
theorem q1220 : (Jvm.Cond.fieldLink "ShoeHouseModel" (157 : Nat) "ShoeHouseModel" "word" "J") ∈ lw_all := lw_g (lw_at lw_m5 169 rfl) rfl
theorem q1221 : (Jvm.Cond.fieldLink "ShoeHouseModel" (209 : Nat) "ShoeHouseModel" "newRooms" "I") ∈ lw_all := lw_g (lw_at lw_m5 170 rfl) rfl
theorem q1222 : (Jvm.Cond.fieldLink "ShoeHouseModel" (206 : Nat) "ShoeHouseModel" "newLodgers" "I") ∈ lw_all := lw_g (lw_at lw_m5 171 rfl) rfl
theorem q1223 : (Jvm.Cond.fieldLink "ShoeHouseModel" (232 : Nat) "ShoeHouseModel" "newFinders" "I") ∈ lw_all := lw_g (lw_at lw_m5 172 rfl) rfl
theorem q1224 : (Jvm.Cond.fieldLink "ShoeHouseModel" (212 : Nat) "ShoeHouseModel" "newMays" "I") ∈ lw_all := lw_g (lw_at lw_m5 173 rfl) rfl
theorem q1225 : (Jvm.Cond.fieldLink "ShoeHouseModel" (238 : Nat) "ShoeHouseModel" "toldLaw" "I") ∈ lw_all := lw_g (lw_at lw_m5 174 rfl) rfl
theorem q1226 : (Jvm.Cond.fieldLink "ShoeHouseModel" (41 : Nat) "ShoeHouseModel" "newGoods" "[I") ∈ lw_all := lw_g (lw_at lw_m5 175 rfl) rfl
theorem q1227 : (Jvm.Cond.fieldLink "ShoeHouseModel" (44 : Nat) "ShoeHouseModel" "newWhose" "[I") ∈ lw_all := lw_g (lw_at lw_m5 176 rfl) rfl
theorem q1228 : (Jvm.Cond.fieldLink "ShoeHouseModel" (47 : Nat) "ShoeHouseModel" "newHome" "[I") ∈ lw_all := lw_g (lw_at lw_m5 177 rfl) rfl
theorem q1229 : (Jvm.Cond.fieldLink "ShoeHouseModel" (50 : Nat) "ShoeHouseModel" "newShoes" "[I") ∈ lw_all := lw_g (lw_at lw_m5 178 rfl) rfl
theorem q1230 : (Jvm.Cond.fieldLink "ShoeHouseModel" (53 : Nat) "ShoeHouseModel" "newBegins" "[I") ∈ lw_all := lw_g (lw_at lw_m5 179 rfl) rfl
theorem q1231 : (Jvm.Cond.fieldLink "ShoeHouseModel" (56 : Nat) "ShoeHouseModel" "newLaw" "[I") ∈ lw_all := lw_g (lw_at lw_m5 180 rfl) rfl
theorem q1232 : (Jvm.Cond.fieldLink "ShoeHouseModel" (59 : Nat) "ShoeHouseModel" "newMay" "[I") ∈ lw_all := lw_g (lw_at lw_m5 181 rfl) rfl
theorem q1233 : (Jvm.Cond.fieldLink "ShoeHouseModel" (264 : Nat) "ShoeHouseModel" "lent" "I") ∈ lw_all := lw_g (lw_at lw_m5 182 rfl) rfl
theorem q1234 : (Jvm.Cond.fieldLink "ShoeHouseModel" (62 : Nat) "ShoeHouseModel" "lending" "[I") ∈ lw_all := lw_g (lw_at lw_m5 183 rfl) rfl
theorem q1235 : (Jvm.Cond.fieldLink "ShoeHouseModel" (65 : Nat) "ShoeHouseModel" "day" "[I") ∈ lw_all := lw_g (lw_at lw_m5 184 rfl) rfl
theorem q1236 : (Jvm.Cond.fieldLink "ShoeHouseModel" (68 : Nat) "ShoeHouseModel" "looks" "[I") ∈ lw_all := lw_g (lw_at lw_m5 185 rfl) rfl
theorem q1237 : (Jvm.Cond.fieldLink "ShoeHouseModel" (71 : Nat) "ShoeHouseModel" "seenHour" "I") ∈ lw_all := lw_g (lw_at lw_m5 186 rfl) rfl
theorem q1238 : (Jvm.Cond.fieldLink "ShoeHouseModel" (267 : Nat) "ShoeHouseModel" "seenRooms" "I") ∈ lw_all := lw_g (lw_at lw_m5 187 rfl) rfl
theorem q1239 : (Jvm.Cond.fieldLink "ShoeHouseModel" (74 : Nat) "ShoeHouseModel" "seen" "[I") ∈ lw_all := lw_g (lw_at lw_m5 188 rfl) rfl
theorem q1240 : (Jvm.Cond.fieldLink "ShoeHouseModel" (77 : Nat) "ShoeHouseModel" "act" "[I") ∈ lw_all := lw_g (lw_at lw_m5 189 rfl) rfl
theorem q1241 : (Jvm.Cond.fieldLink "ShoeHouseModel" (80 : Nat) "ShoeHouseModel" "caseOf" "[I") ∈ lw_all := lw_g (lw_at lw_m5 190 rfl) rfl
theorem q1242 : (Jvm.Cond.fieldLink "ShoeHouseModel" (331 : Nat) "ShoeHouseModel" "cases" "I") ∈ lw_all := lw_g (lw_at lw_m5 191 rfl) rfl
theorem q1243 : (Jvm.Cond.fieldLink "ShoeHouseModel" (83 : Nat) "ShoeHouseModel" "doors" "[I") ∈ lw_all := lw_g (lw_at lw_m5 192 rfl) rfl
theorem q1244 : (Jvm.Cond.fieldLink "ShoeHouseModel" (86 : Nat) "ShoeHouseModel" "real" "[I") ∈ lw_all := lw_g (lw_at lw_m5 193 rfl) rfl
theorem q1245 : (Jvm.Cond.fieldLink "ShoeHouseModel" (89 : Nat) "ShoeHouseModel" "gains" "[I") ∈ lw_all := lw_g (lw_at lw_m5 194 rfl) rfl
theorem q1246 : (Jvm.Cond.fieldLink "ShoeHouseModel" (92 : Nat) "ShoeHouseModel" "path" "[I") ∈ lw_all := lw_g (lw_at lw_m5 195 rfl) rfl
theorem q1247 : (Jvm.Cond.fieldLink "ShoeHouseModel" (95 : Nat) "ShoeHouseModel" "kept" "[I") ∈ lw_all := lw_g (lw_at lw_m5 196 rfl) rfl
theorem q1248 : (Jvm.Cond.fieldLink "ShoeHouseModel" (98 : Nat) "ShoeHouseModel" "keptLook" "[I") ∈ lw_all := lw_g (lw_at lw_m5 197 rfl) rfl
theorem q1249 : (Jvm.Cond.fieldLink "ShoeHouseModel" (270 : Nat) "ShoeHouseModel" "pathLong" "I") ∈ lw_all := lw_g (lw_at lw_m5 198 rfl) rfl
theorem q1250 : (Jvm.Cond.fieldLink "ShoeHouseModel" (101 : Nat) "ShoeHouseModel" "spot" "[I") ∈ lw_all := lw_g (lw_at lw_m5 199 rfl) rfl
theorem q1251 : (Jvm.Cond.fieldLink "ShoeHouseModel" (104 : Nat) "ShoeHouseModel" "firstSpot" "[I") ∈ lw_all := lw_g (lw_at lw_m5 200 rfl) rfl
theorem q1252 : (Jvm.Cond.fieldLink "ShoeHouseModel" (107 : Nat) "ShoeHouseModel" "worth" "[I") ∈ lw_all := lw_g (lw_at lw_m5 201 rfl) rfl
theorem q1253 : (Jvm.Cond.fieldLink "ShoeHouseModel" (273 : Nat) "ShoeHouseModel" "hasLending" "Z") ∈ lw_all := lw_g (lw_at lw_m5 202 rfl) rfl
theorem q1254 : (Jvm.Cond.fieldLink "ShoeHouseModel" (110 : Nat) "ShoeHouseModel" "gets" "[I") ∈ lw_all := lw_g (lw_at lw_m5 203 rfl) rfl
theorem q1255 : (Jvm.Cond.fieldLink "ShoeHouseModel" (113 : Nat) "ShoeHouseModel" "keptGets" "[I") ∈ lw_all := lw_g (lw_at lw_m5 204 rfl) rfl
theorem q1256 : (Jvm.Cond.fieldLink "ShoeHouseModel" (389 : Nat) "ShoeHouseModel" "from" "I") ∈ lw_all := lw_g (lw_at lw_m5 205 rfl) rfl
theorem q1257 : (Jvm.Cond.fieldLink "ShoeHouseModel" (392 : Nat) "ShoeHouseModel" "to" "I") ∈ lw_all := lw_g (lw_at lw_m5 206 rfl) rfl
theorem q1258 : (Jvm.Cond.fieldLink "ShoeHouseModel" (116 : Nat) "ShoeHouseModel" "words" "[I") ∈ lw_all := lw_g (lw_at lw_m5 207 rfl) rfl
theorem q1259 : (Jvm.Cond.fieldLink "ShoeHouseModel" (407 : Nat) "ShoeHouseModel" "many" "I") ∈ lw_all := lw_g (lw_at lw_m5 208 rfl) rfl
theorem q1260 : (Jvm.Cond.fieldLink "ShoeHouseModel" (277 : Nat) "ShoeHouseModel" "hasImage" "Z") ∈ lw_all := lw_g (lw_at lw_m5 209 rfl) rfl
theorem q1261 : (Jvm.Cond.fieldLink "ShoeHouseModel" (119 : Nat) "ShoeHouseModel" "imageOf" "[I") ∈ lw_all := lw_g (lw_at lw_m5 210 rfl) rfl
theorem q1262 : (Jvm.Cond.fieldLink "ShoeHouseModel" (122 : Nat) "ShoeHouseModel" "imageLending" "[I") ∈ lw_all := lw_g (lw_at lw_m5 211 rfl) rfl
theorem q1263 : (Jvm.Cond.fieldLink "ShoeHouseModel" (125 : Nat) "ShoeHouseModel" "imageSeen" "[I") ∈ lw_all := lw_g (lw_at lw_m5 212 rfl) rfl
theorem q1264 : (Jvm.Cond.fieldLink "ShoeHouseModel" (128 : Nat) "ShoeHouseModel" "imageDay" "[I") ∈ lw_all := lw_g (lw_at lw_m5 213 rfl) rfl
theorem q1265 : (Jvm.Cond.fieldLink "ShoeHouseModel" (131 : Nat) "ShoeHouseModel" "imageLooks" "[I") ∈ lw_all := lw_g (lw_at lw_m5 214 rfl) rfl
theorem q1266 : (Jvm.Cond.lays "ShoeHouseModel" "ShoeHouseModel" "thrown" "I") ∈ lw_all := lw_g (lw_at lw_m5 215 rfl) rfl
theorem q1267 : (Jvm.Cond.soleField "ShoeHouseModel" "thrown") ∈ lw_all := lw_g (lw_at lw_m5 216 rfl) rfl
theorem q1268 : (Jvm.Cond.lays "ShoeHouseModel" "ShoeHouseModel" "rooms" "I") ∈ lw_all := lw_g (lw_at lw_m5 217 rfl) rfl
theorem q1269 : (Jvm.Cond.soleField "ShoeHouseModel" "rooms") ∈ lw_all := lw_g (lw_at lw_m5 218 rfl) rfl
theorem q1270 : (Jvm.Cond.lays "ShoeHouseModel" "ShoeHouseModel" "lodgers" "I") ∈ lw_all := lw_g (lw_at lw_m5 219 rfl) rfl
theorem q1271 : (Jvm.Cond.soleField "ShoeHouseModel" "lodgers") ∈ lw_all := lw_g (lw_at lw_m5 220 rfl) rfl
theorem q1272 : (Jvm.Cond.lays "ShoeHouseModel" "ShoeHouseModel" "finders" "I") ∈ lw_all := lw_g (lw_at lw_m5 221 rfl) rfl
theorem q1273 : (Jvm.Cond.soleField "ShoeHouseModel" "finders") ∈ lw_all := lw_g (lw_at lw_m5 222 rfl) rfl
theorem q1274 : (Jvm.Cond.lays "ShoeHouseModel" "ShoeHouseModel" "mays" "I") ∈ lw_all := lw_g (lw_at lw_m5 223 rfl) rfl
theorem q1275 : (Jvm.Cond.soleField "ShoeHouseModel" "mays") ∈ lw_all := lw_g (lw_at lw_m5 224 rfl) rfl
theorem q1276 : (Jvm.Cond.laysFinal "ShoeHouseModel" "ShoeHouseModel" "goods" "[I") ∈ lw_all := lw_g (lw_at lw_m5 225 rfl) rfl
theorem q1277 : (Jvm.Cond.soleField "ShoeHouseModel" "goods") ∈ lw_all := lw_g (lw_at lw_m5 226 rfl) rfl
theorem q1278 : (Jvm.Cond.laysFinal "ShoeHouseModel" "ShoeHouseModel" "whose" "[I") ∈ lw_all := lw_g (lw_at lw_m5 227 rfl) rfl
theorem q1279 : (Jvm.Cond.soleField "ShoeHouseModel" "whose") ∈ lw_all := lw_g (lw_at lw_m5 228 rfl) rfl
theorem q1280 : (Jvm.Cond.laysFinal "ShoeHouseModel" "ShoeHouseModel" "home" "[I") ∈ lw_all := lw_g (lw_at lw_m5 229 rfl) rfl
theorem q1281 : (Jvm.Cond.soleField "ShoeHouseModel" "home") ∈ lw_all := lw_g (lw_at lw_m5 230 rfl) rfl
theorem q1282 : (Jvm.Cond.laysFinal "ShoeHouseModel" "ShoeHouseModel" "shoes" "[I") ∈ lw_all := lw_g (lw_at lw_m5 231 rfl) rfl
theorem q1283 : (Jvm.Cond.soleField "ShoeHouseModel" "shoes") ∈ lw_all := lw_g (lw_at lw_m5 232 rfl) rfl
theorem q1284 : (Jvm.Cond.laysFinal "ShoeHouseModel" "ShoeHouseModel" "begins" "[I") ∈ lw_all := lw_g (lw_at lw_m5 233 rfl) rfl
theorem q1285 : (Jvm.Cond.soleField "ShoeHouseModel" "begins") ∈ lw_all := lw_g (lw_at lw_m5 234 rfl) rfl
theorem q1286 : (Jvm.Cond.laysFinal "ShoeHouseModel" "ShoeHouseModel" "law" "[I") ∈ lw_all := lw_g (lw_at lw_m5 235 rfl) rfl
theorem q1287 : (Jvm.Cond.soleField "ShoeHouseModel" "law") ∈ lw_all := lw_g (lw_at lw_m5 236 rfl) rfl
theorem q1288 : (Jvm.Cond.laysFinal "ShoeHouseModel" "ShoeHouseModel" "may" "[I") ∈ lw_all := lw_g (lw_at lw_m5 237 rfl) rfl
theorem q1289 : (Jvm.Cond.soleField "ShoeHouseModel" "may") ∈ lw_all := lw_g (lw_at lw_m5 238 rfl) rfl
theorem q1290 : (Jvm.Cond.laysFinal "ShoeHouseModel" "ShoeHouseModel" "tape" "[I") ∈ lw_all := lw_g (lw_at lw_m5 239 rfl) rfl
theorem q1291 : (Jvm.Cond.soleField "ShoeHouseModel" "tape") ∈ lw_all := lw_g (lw_at lw_m6 0 rfl) rfl
theorem q1292 : (Jvm.Cond.lays "ShoeHouseModel" "ShoeHouseModel" "taped" "I") ∈ lw_all := lw_g (lw_at lw_m6 1 rfl) rfl
theorem q1293 : (Jvm.Cond.soleField "ShoeHouseModel" "taped") ∈ lw_all := lw_g (lw_at lw_m6 2 rfl) rfl
theorem q1294 : (Jvm.Cond.lays "ShoeHouseModel" "ShoeHouseModel" "faultKind" "I") ∈ lw_all := lw_g (lw_at lw_m6 3 rfl) rfl
theorem q1295 : (Jvm.Cond.soleField "ShoeHouseModel" "faultKind") ∈ lw_all := lw_g (lw_at lw_m6 4 rfl) rfl
theorem q1296 : (Jvm.Cond.lays "ShoeHouseModel" "ShoeHouseModel" "faultPlace" "I") ∈ lw_all := lw_g (lw_at lw_m6 5 rfl) rfl
theorem q1297 : (Jvm.Cond.soleField "ShoeHouseModel" "faultPlace") ∈ lw_all := lw_g (lw_at lw_m6 6 rfl) rfl
theorem q1298 : (Jvm.Cond.laysFinal "ShoeHouseModel" "ShoeHouseModel" "refused" "[I") ∈ lw_all := lw_g (lw_at lw_m6 7 rfl) rfl
theorem q1299 : (Jvm.Cond.soleField "ShoeHouseModel" "refused") ∈ lw_all := lw_g (lw_at lw_m6 8 rfl) rfl
theorem q1300 : (Jvm.Cond.lays "ShoeHouseModel" "ShoeHouseModel" "size" "I") ∈ lw_all := lw_g (lw_at lw_m6 9 rfl) rfl
theorem q1301 : (Jvm.Cond.soleField "ShoeHouseModel" "size") ∈ lw_all := lw_g (lw_at lw_m6 10 rfl) rfl
theorem q1302 : (Jvm.Cond.lays "ShoeHouseModel" "ShoeHouseModel" "next" "I") ∈ lw_all := lw_g (lw_at lw_m6 11 rfl) rfl
theorem q1303 : (Jvm.Cond.soleField "ShoeHouseModel" "next") ∈ lw_all := lw_g (lw_at lw_m6 12 rfl) rfl
theorem q1304 : (Jvm.Cond.lays "ShoeHouseModel" "ShoeHouseModel" "sort" "I") ∈ lw_all := lw_g (lw_at lw_m6 13 rfl) rfl
theorem q1305 : (Jvm.Cond.soleField "ShoeHouseModel" "sort") ∈ lw_all := lw_g (lw_at lw_m6 14 rfl) rfl
theorem q1306 : (Jvm.Cond.lays "ShoeHouseModel" "ShoeHouseModel" "place" "I") ∈ lw_all := lw_g (lw_at lw_m6 15 rfl) rfl
theorem q1307 : (Jvm.Cond.soleField "ShoeHouseModel" "place") ∈ lw_all := lw_g (lw_at lw_m6 16 rfl) rfl
theorem q1308 : (Jvm.Cond.lays "ShoeHouseModel" "ShoeHouseModel" "long0" "I") ∈ lw_all := lw_g (lw_at lw_m6 17 rfl) rfl
theorem q1309 : (Jvm.Cond.soleField "ShoeHouseModel" "long0") ∈ lw_all := lw_g (lw_at lw_m6 18 rfl) rfl
theorem q1310 : (Jvm.Cond.lays "ShoeHouseModel" "ShoeHouseModel" "value" "I") ∈ lw_all := lw_g (lw_at lw_m6 19 rfl) rfl
theorem q1311 : (Jvm.Cond.soleField "ShoeHouseModel" "value") ∈ lw_all := lw_g (lw_at lw_m6 20 rfl) rfl
theorem q1312 : (Jvm.Cond.lays "ShoeHouseModel" "ShoeHouseModel" "word" "J") ∈ lw_all := lw_g (lw_at lw_m6 21 rfl) rfl
theorem q1313 : (Jvm.Cond.soleField "ShoeHouseModel" "word") ∈ lw_all := lw_g (lw_at lw_m6 22 rfl) rfl
theorem q1314 : (Jvm.Cond.lays "ShoeHouseModel" "ShoeHouseModel" "newRooms" "I") ∈ lw_all := lw_g (lw_at lw_m6 23 rfl) rfl
theorem q1315 : (Jvm.Cond.soleField "ShoeHouseModel" "newRooms") ∈ lw_all := lw_g (lw_at lw_m6 24 rfl) rfl
theorem q1316 : (Jvm.Cond.lays "ShoeHouseModel" "ShoeHouseModel" "newLodgers" "I") ∈ lw_all := lw_g (lw_at lw_m6 25 rfl) rfl
theorem q1317 : (Jvm.Cond.soleField "ShoeHouseModel" "newLodgers") ∈ lw_all := lw_g (lw_at lw_m6 26 rfl) rfl
theorem q1318 : (Jvm.Cond.lays "ShoeHouseModel" "ShoeHouseModel" "newFinders" "I") ∈ lw_all := lw_g (lw_at lw_m6 27 rfl) rfl
theorem q1319 : (Jvm.Cond.soleField "ShoeHouseModel" "newFinders") ∈ lw_all := lw_g (lw_at lw_m6 28 rfl) rfl
theorem q1320 : (Jvm.Cond.lays "ShoeHouseModel" "ShoeHouseModel" "newMays" "I") ∈ lw_all := lw_g (lw_at lw_m6 29 rfl) rfl
theorem q1321 : (Jvm.Cond.soleField "ShoeHouseModel" "newMays") ∈ lw_all := lw_g (lw_at lw_m6 30 rfl) rfl
theorem q1322 : (Jvm.Cond.lays "ShoeHouseModel" "ShoeHouseModel" "toldLaw" "I") ∈ lw_all := lw_g (lw_at lw_m6 31 rfl) rfl
theorem q1323 : (Jvm.Cond.soleField "ShoeHouseModel" "toldLaw") ∈ lw_all := lw_g (lw_at lw_m6 32 rfl) rfl
theorem q1324 : (Jvm.Cond.laysFinal "ShoeHouseModel" "ShoeHouseModel" "newGoods" "[I") ∈ lw_all := lw_g (lw_at lw_m6 33 rfl) rfl
theorem q1325 : (Jvm.Cond.soleField "ShoeHouseModel" "newGoods") ∈ lw_all := lw_g (lw_at lw_m6 34 rfl) rfl
theorem q1326 : (Jvm.Cond.laysFinal "ShoeHouseModel" "ShoeHouseModel" "newWhose" "[I") ∈ lw_all := lw_g (lw_at lw_m6 35 rfl) rfl
theorem q1327 : (Jvm.Cond.soleField "ShoeHouseModel" "newWhose") ∈ lw_all := lw_g (lw_at lw_m6 36 rfl) rfl
theorem q1328 : (Jvm.Cond.laysFinal "ShoeHouseModel" "ShoeHouseModel" "newHome" "[I") ∈ lw_all := lw_g (lw_at lw_m6 37 rfl) rfl
theorem q1329 : (Jvm.Cond.soleField "ShoeHouseModel" "newHome") ∈ lw_all := lw_g (lw_at lw_m6 38 rfl) rfl
theorem q1330 : (Jvm.Cond.laysFinal "ShoeHouseModel" "ShoeHouseModel" "newShoes" "[I") ∈ lw_all := lw_g (lw_at lw_m6 39 rfl) rfl
theorem q1331 : (Jvm.Cond.soleField "ShoeHouseModel" "newShoes") ∈ lw_all := lw_g (lw_at lw_m6 40 rfl) rfl
theorem q1332 : (Jvm.Cond.laysFinal "ShoeHouseModel" "ShoeHouseModel" "newBegins" "[I") ∈ lw_all := lw_g (lw_at lw_m6 41 rfl) rfl
theorem q1333 : (Jvm.Cond.soleField "ShoeHouseModel" "newBegins") ∈ lw_all := lw_g (lw_at lw_m6 42 rfl) rfl
theorem q1334 : (Jvm.Cond.laysFinal "ShoeHouseModel" "ShoeHouseModel" "newLaw" "[I") ∈ lw_all := lw_g (lw_at lw_m6 43 rfl) rfl
theorem q1335 : (Jvm.Cond.soleField "ShoeHouseModel" "newLaw") ∈ lw_all := lw_g (lw_at lw_m6 44 rfl) rfl
theorem q1336 : (Jvm.Cond.laysFinal "ShoeHouseModel" "ShoeHouseModel" "newMay" "[I") ∈ lw_all := lw_g (lw_at lw_m6 45 rfl) rfl
theorem q1337 : (Jvm.Cond.soleField "ShoeHouseModel" "newMay") ∈ lw_all := lw_g (lw_at lw_m6 46 rfl) rfl
theorem q1338 : (Jvm.Cond.lays "ShoeHouseModel" "ShoeHouseModel" "lent" "I") ∈ lw_all := lw_g (lw_at lw_m6 47 rfl) rfl
theorem q1339 : (Jvm.Cond.soleField "ShoeHouseModel" "lent") ∈ lw_all := lw_g (lw_at lw_m6 48 rfl) rfl
theorem q1340 : (Jvm.Cond.laysFinal "ShoeHouseModel" "ShoeHouseModel" "lending" "[I") ∈ lw_all := lw_g (lw_at lw_m6 49 rfl) rfl
theorem q1341 : (Jvm.Cond.soleField "ShoeHouseModel" "lending") ∈ lw_all := lw_g (lw_at lw_m6 50 rfl) rfl
theorem q1342 : (Jvm.Cond.laysFinal "ShoeHouseModel" "ShoeHouseModel" "day" "[I") ∈ lw_all := lw_g (lw_at lw_m6 51 rfl) rfl
theorem q1343 : (Jvm.Cond.soleField "ShoeHouseModel" "day") ∈ lw_all := lw_g (lw_at lw_m6 52 rfl) rfl
theorem q1344 : (Jvm.Cond.laysFinal "ShoeHouseModel" "ShoeHouseModel" "looks" "[I") ∈ lw_all := lw_g (lw_at lw_m6 53 rfl) rfl
theorem q1345 : (Jvm.Cond.soleField "ShoeHouseModel" "looks") ∈ lw_all := lw_g (lw_at lw_m6 54 rfl) rfl
theorem q1346 : (Jvm.Cond.lays "ShoeHouseModel" "ShoeHouseModel" "seenHour" "I") ∈ lw_all := lw_g (lw_at lw_m6 55 rfl) rfl
theorem q1347 : (Jvm.Cond.soleField "ShoeHouseModel" "seenHour") ∈ lw_all := lw_g (lw_at lw_m6 56 rfl) rfl
theorem q1348 : (Jvm.Cond.lays "ShoeHouseModel" "ShoeHouseModel" "seenRooms" "I") ∈ lw_all := lw_g (lw_at lw_m6 57 rfl) rfl
theorem q1349 : (Jvm.Cond.soleField "ShoeHouseModel" "seenRooms") ∈ lw_all := lw_g (lw_at lw_m6 58 rfl) rfl
theorem q1350 : (Jvm.Cond.laysFinal "ShoeHouseModel" "ShoeHouseModel" "seen" "[I") ∈ lw_all := lw_g (lw_at lw_m6 59 rfl) rfl
theorem q1351 : (Jvm.Cond.soleField "ShoeHouseModel" "seen") ∈ lw_all := lw_g (lw_at lw_m6 60 rfl) rfl
theorem q1352 : (Jvm.Cond.laysFinal "ShoeHouseModel" "ShoeHouseModel" "act" "[I") ∈ lw_all := lw_g (lw_at lw_m6 61 rfl) rfl
theorem q1353 : (Jvm.Cond.soleField "ShoeHouseModel" "act") ∈ lw_all := lw_g (lw_at lw_m6 62 rfl) rfl
theorem q1354 : (Jvm.Cond.laysFinal "ShoeHouseModel" "ShoeHouseModel" "caseOf" "[I") ∈ lw_all := lw_g (lw_at lw_m6 63 rfl) rfl
theorem q1355 : (Jvm.Cond.soleField "ShoeHouseModel" "caseOf") ∈ lw_all := lw_g (lw_at lw_m6 64 rfl) rfl
theorem q1356 : (Jvm.Cond.lays "ShoeHouseModel" "ShoeHouseModel" "cases" "I") ∈ lw_all := lw_g (lw_at lw_m6 65 rfl) rfl
theorem q1357 : (Jvm.Cond.soleField "ShoeHouseModel" "cases") ∈ lw_all := lw_g (lw_at lw_m6 66 rfl) rfl
theorem q1358 : (Jvm.Cond.laysFinal "ShoeHouseModel" "ShoeHouseModel" "doors" "[I") ∈ lw_all := lw_g (lw_at lw_m6 67 rfl) rfl
theorem q1359 : (Jvm.Cond.soleField "ShoeHouseModel" "doors") ∈ lw_all := lw_g (lw_at lw_m6 68 rfl) rfl
theorem q1360 : (Jvm.Cond.laysFinal "ShoeHouseModel" "ShoeHouseModel" "real" "[I") ∈ lw_all := lw_g (lw_at lw_m6 69 rfl) rfl
theorem q1361 : (Jvm.Cond.soleField "ShoeHouseModel" "real") ∈ lw_all := lw_g (lw_at lw_m6 70 rfl) rfl
theorem q1362 : (Jvm.Cond.laysFinal "ShoeHouseModel" "ShoeHouseModel" "gains" "[I") ∈ lw_all := lw_g (lw_at lw_m6 71 rfl) rfl
theorem q1363 : (Jvm.Cond.soleField "ShoeHouseModel" "gains") ∈ lw_all := lw_g (lw_at lw_m6 72 rfl) rfl
theorem q1364 : (Jvm.Cond.laysFinal "ShoeHouseModel" "ShoeHouseModel" "path" "[I") ∈ lw_all := lw_g (lw_at lw_m6 73 rfl) rfl
theorem q1365 : (Jvm.Cond.soleField "ShoeHouseModel" "path") ∈ lw_all := lw_g (lw_at lw_m6 74 rfl) rfl
theorem q1366 : (Jvm.Cond.laysFinal "ShoeHouseModel" "ShoeHouseModel" "kept" "[I") ∈ lw_all := lw_g (lw_at lw_m6 75 rfl) rfl
theorem q1367 : (Jvm.Cond.soleField "ShoeHouseModel" "kept") ∈ lw_all := lw_g (lw_at lw_m6 76 rfl) rfl
theorem q1368 : (Jvm.Cond.laysFinal "ShoeHouseModel" "ShoeHouseModel" "keptLook" "[I") ∈ lw_all := lw_g (lw_at lw_m6 77 rfl) rfl
theorem q1369 : (Jvm.Cond.soleField "ShoeHouseModel" "keptLook") ∈ lw_all := lw_g (lw_at lw_m6 78 rfl) rfl
theorem q1370 : (Jvm.Cond.lays "ShoeHouseModel" "ShoeHouseModel" "pathLong" "I") ∈ lw_all := lw_g (lw_at lw_m6 79 rfl) rfl
theorem q1371 : (Jvm.Cond.soleField "ShoeHouseModel" "pathLong") ∈ lw_all := lw_g (lw_at lw_m6 80 rfl) rfl
theorem q1372 : (Jvm.Cond.laysFinal "ShoeHouseModel" "ShoeHouseModel" "spot" "[I") ∈ lw_all := lw_g (lw_at lw_m6 81 rfl) rfl
theorem q1373 : (Jvm.Cond.soleField "ShoeHouseModel" "spot") ∈ lw_all := lw_g (lw_at lw_m6 82 rfl) rfl
theorem q1374 : (Jvm.Cond.laysFinal "ShoeHouseModel" "ShoeHouseModel" "firstSpot" "[I") ∈ lw_all := lw_g (lw_at lw_m6 83 rfl) rfl
theorem q1375 : (Jvm.Cond.soleField "ShoeHouseModel" "firstSpot") ∈ lw_all := lw_g (lw_at lw_m6 84 rfl) rfl
theorem q1376 : (Jvm.Cond.laysFinal "ShoeHouseModel" "ShoeHouseModel" "worth" "[I") ∈ lw_all := lw_g (lw_at lw_m6 85 rfl) rfl
theorem q1377 : (Jvm.Cond.soleField "ShoeHouseModel" "worth") ∈ lw_all := lw_g (lw_at lw_m6 86 rfl) rfl
theorem q1378 : (Jvm.Cond.lays "ShoeHouseModel" "ShoeHouseModel" "hasLending" "Z") ∈ lw_all := lw_g (lw_at lw_m6 87 rfl) rfl
theorem q1379 : (Jvm.Cond.soleField "ShoeHouseModel" "hasLending") ∈ lw_all := lw_g (lw_at lw_m6 88 rfl) rfl
theorem q1380 : (Jvm.Cond.laysFinal "ShoeHouseModel" "ShoeHouseModel" "gets" "[I") ∈ lw_all := lw_g (lw_at lw_m6 89 rfl) rfl
theorem q1381 : (Jvm.Cond.soleField "ShoeHouseModel" "gets") ∈ lw_all := lw_g (lw_at lw_m6 90 rfl) rfl
theorem q1382 : (Jvm.Cond.laysFinal "ShoeHouseModel" "ShoeHouseModel" "keptGets" "[I") ∈ lw_all := lw_g (lw_at lw_m6 91 rfl) rfl
theorem q1383 : (Jvm.Cond.soleField "ShoeHouseModel" "keptGets") ∈ lw_all := lw_g (lw_at lw_m6 92 rfl) rfl
theorem q1384 : (Jvm.Cond.lays "ShoeHouseModel" "ShoeHouseModel" "from" "I") ∈ lw_all := lw_g (lw_at lw_m6 93 rfl) rfl
theorem q1385 : (Jvm.Cond.soleField "ShoeHouseModel" "from") ∈ lw_all := lw_g (lw_at lw_m6 94 rfl) rfl
theorem q1386 : (Jvm.Cond.lays "ShoeHouseModel" "ShoeHouseModel" "to" "I") ∈ lw_all := lw_g (lw_at lw_m6 95 rfl) rfl
theorem q1387 : (Jvm.Cond.soleField "ShoeHouseModel" "to") ∈ lw_all := lw_g (lw_at lw_m6 96 rfl) rfl
theorem q1388 : (Jvm.Cond.laysFinal "ShoeHouseModel" "ShoeHouseModel" "words" "[I") ∈ lw_all := lw_g (lw_at lw_m6 97 rfl) rfl
theorem q1389 : (Jvm.Cond.soleField "ShoeHouseModel" "words") ∈ lw_all := lw_g (lw_at lw_m6 98 rfl) rfl
theorem q1390 : (Jvm.Cond.lays "ShoeHouseModel" "ShoeHouseModel" "many" "I") ∈ lw_all := lw_g (lw_at lw_m6 99 rfl) rfl
theorem q1391 : (Jvm.Cond.soleField "ShoeHouseModel" "many") ∈ lw_all := lw_g (lw_at lw_m6 100 rfl) rfl
theorem q1392 : (Jvm.Cond.lays "ShoeHouseModel" "ShoeHouseModel" "hasImage" "Z") ∈ lw_all := lw_g (lw_at lw_m6 101 rfl) rfl
theorem q1393 : (Jvm.Cond.soleField "ShoeHouseModel" "hasImage") ∈ lw_all := lw_g (lw_at lw_m6 102 rfl) rfl
theorem q1394 : (Jvm.Cond.laysFinal "ShoeHouseModel" "ShoeHouseModel" "imageOf" "[I") ∈ lw_all := lw_g (lw_at lw_m6 103 rfl) rfl
theorem q1395 : (Jvm.Cond.soleField "ShoeHouseModel" "imageOf") ∈ lw_all := lw_g (lw_at lw_m6 104 rfl) rfl
theorem q1396 : (Jvm.Cond.laysFinal "ShoeHouseModel" "ShoeHouseModel" "imageLending" "[I") ∈ lw_all := lw_g (lw_at lw_m6 105 rfl) rfl
theorem q1397 : (Jvm.Cond.soleField "ShoeHouseModel" "imageLending") ∈ lw_all := lw_g (lw_at lw_m6 106 rfl) rfl
theorem q1398 : (Jvm.Cond.laysFinal "ShoeHouseModel" "ShoeHouseModel" "imageSeen" "[I") ∈ lw_all := lw_g (lw_at lw_m6 107 rfl) rfl
theorem q1399 : (Jvm.Cond.soleField "ShoeHouseModel" "imageSeen") ∈ lw_all := lw_g (lw_at lw_m6 108 rfl) rfl
theorem q1400 : (Jvm.Cond.laysFinal "ShoeHouseModel" "ShoeHouseModel" "imageDay" "[I") ∈ lw_all := lw_g (lw_at lw_m6 109 rfl) rfl
theorem q1401 : (Jvm.Cond.soleField "ShoeHouseModel" "imageDay") ∈ lw_all := lw_g (lw_at lw_m6 110 rfl) rfl
theorem q1402 : (Jvm.Cond.laysFinal "ShoeHouseModel" "ShoeHouseModel" "imageLooks" "[I") ∈ lw_all := lw_g (lw_at lw_m6 111 rfl) rfl
theorem q1403 : (Jvm.Cond.soleField "ShoeHouseModel" "imageLooks") ∈ lw_all := lw_g (lw_at lw_m6 112 rfl) rfl
theorem q1404 : (Jvm.Cond.superclass "ShoeHouseModel" "java/lang/Object") ∈ lw_all := lw_g (lw_at lw_m6 113 rfl) rfl
theorem q1406 : (Jvm.Cond.instanceMethod ({ cls := "ShoeHouseModel", name := "thrown", desc := "()I" } : Jvm.MethodName)) ∈ lw_all := lw_g (lw_at lw_m6 115 rfl) rfl
theorem q1407 : (Jvm.Cond.selects "ShoeHouseModel" ({ cls := "ShoeHouseModel", name := "thrown", desc := "()I" } : Jvm.MethodName) ({ cls := "ShoeHouseModel", name := "thrown", desc := "()I" } : Jvm.MethodName)) ∈ lw_all := lw_g (lw_at lw_m6 116 rfl) rfl
theorem q1408 : (Jvm.Cond.code ({ cls := "ShoeHouseModel", name := "thrown", desc := "()I" } : Jvm.MethodName) prog_11_method_2_code (1 : Nat) (Option.some Jvm.ClassFile.FieldType.int)) ∈ lw_all := lw_g (lw_at lw_m6 117 rfl) rfl
theorem q1410 : (Jvm.Cond.instanceMethod ({ cls := "ShoeHouseModel", name := "feed", desc := "(IIIII)I" } : Jvm.MethodName)) ∈ lw_all := lw_g (lw_at lw_m6 119 rfl) rfl
theorem q1411 : (Jvm.Cond.selects "ShoeHouseModel" ({ cls := "ShoeHouseModel", name := "feed", desc := "(IIIII)I" } : Jvm.MethodName) ({ cls := "ShoeHouseModel", name := "feed", desc := "(IIIII)I" } : Jvm.MethodName)) ∈ lw_all := lw_g (lw_at lw_m6 120 rfl) rfl
theorem q1412 : (Jvm.Cond.code ({ cls := "ShoeHouseModel", name := "feed", desc := "(IIIII)I" } : Jvm.MethodName) prog_11_method_8_code (6 : Nat) (Option.some Jvm.ClassFile.FieldType.int)) ∈ lw_all := lw_g (lw_at lw_m6 121 rfl) rfl
theorem q1413 : (Jvm.Cond.methodLink "ShoeHouseModel" (140 : Nat) ({ cls := "ShoeHouseModel", name := "lays", desc := "(I)V" } : Jvm.MethodName)) ∈ lw_all := lw_g (lw_at lw_m6 122 rfl) rfl
theorem q1414 : (Jvm.Cond.privateMethod ({ cls := "ShoeHouseModel", name := "lays", desc := "(I)V" } : Jvm.MethodName)) ∈ lw_tbl := lw_at lw_m6 123 rfl
theorem q1415 : (Jvm.Cond.instanceMethod ({ cls := "ShoeHouseModel", name := "lays", desc := "(I)V" } : Jvm.MethodName)) ∈ lw_all := lw_g (lw_at lw_m6 124 rfl) rfl
theorem q1416 : (Jvm.Cond.code ({ cls := "ShoeHouseModel", name := "lays", desc := "(I)V" } : Jvm.MethodName) prog_11_method_9_code (3 : Nat) (Option.none : Option Jvm.ClassFile.FieldType)) ∈ lw_all := lw_g (lw_at lw_m6 125 rfl) rfl
theorem q1418 : (Jvm.Cond.instanceMethod ({ cls := "ShoeHouseModel", name := "house", desc := "(I)I" } : Jvm.MethodName)) ∈ lw_all := lw_g (lw_at lw_m6 127 rfl) rfl
theorem q1419 : (Jvm.Cond.selects "ShoeHouseModel" ({ cls := "ShoeHouseModel", name := "house", desc := "(I)I" } : Jvm.MethodName) ({ cls := "ShoeHouseModel", name := "house", desc := "(I)I" } : Jvm.MethodName)) ∈ lw_all := lw_g (lw_at lw_m6 128 rfl) rfl
theorem q1420 : (Jvm.Cond.code ({ cls := "ShoeHouseModel", name := "house", desc := "(I)I" } : Jvm.MethodName) prog_11_method_27_code (4 : Nat) (Option.some Jvm.ClassFile.FieldType.int)) ∈ lw_all := lw_g (lw_at lw_m6 129 rfl) rfl
theorem q1421 : (Jvm.Cond.methodLink "ShoeHouseModel" (241 : Nat) ({ cls := "ShoeHouseModel", name := "right", desc := "(ZI)Z" } : Jvm.MethodName)) ∈ lw_all := lw_g (lw_at lw_m6 130 rfl) rfl
theorem q1422 : (Jvm.Cond.privateMethod ({ cls := "ShoeHouseModel", name := "right", desc := "(ZI)Z" } : Jvm.MethodName)) ∈ lw_tbl := lw_at lw_m6 131 rfl
theorem q1423 : (Jvm.Cond.instanceMethod ({ cls := "ShoeHouseModel", name := "right", desc := "(ZI)Z" } : Jvm.MethodName)) ∈ lw_all := lw_g (lw_at lw_m6 132 rfl) rfl
theorem q1424 : (Jvm.Cond.code ({ cls := "ShoeHouseModel", name := "right", desc := "(ZI)Z" } : Jvm.MethodName) prog_11_method_3_code (3 : Nat) (Option.some Jvm.ClassFile.FieldType.boolean)) ∈ lw_all := lw_g (lw_at lw_m6 133 rfl) rfl
theorem q1425 : (Jvm.Cond.methodLink "ShoeHouseModel" (194 : Nat) ({ cls := "ShoeHouseModel", name := "steps", desc := "()V" } : Jvm.MethodName)) ∈ lw_all := lw_g (lw_at lw_m6 134 rfl) rfl
theorem q1426 : (Jvm.Cond.privateMethod ({ cls := "ShoeHouseModel", name := "steps", desc := "()V" } : Jvm.MethodName)) ∈ lw_tbl := lw_at lw_m6 135 rfl
theorem q1427 : (Jvm.Cond.instanceMethod ({ cls := "ShoeHouseModel", name := "steps", desc := "()V" } : Jvm.MethodName)) ∈ lw_all := lw_g (lw_at lw_m6 136 rfl) rfl
theorem q1428 : (Jvm.Cond.code ({ cls := "ShoeHouseModel", name := "steps", desc := "()V" } : Jvm.MethodName) prog_11_method_13_code (2 : Nat) (Option.none : Option Jvm.ClassFile.FieldType)) ∈ lw_all := lw_g (lw_at lw_m6 137 rfl) rfl
theorem q1429 : (Jvm.Cond.methodLink "ShoeHouseModel" (150 : Nat) ({ cls := "ShoeHouseModel", name := "byteAt", desc := "(I)I" } : Jvm.MethodName)) ∈ lw_all := lw_g (lw_at lw_m6 138 rfl) rfl
theorem q1430 : (Jvm.Cond.privateMethod ({ cls := "ShoeHouseModel", name := "byteAt", desc := "(I)I" } : Jvm.MethodName)) ∈ lw_tbl := lw_at lw_m6 139 rfl
theorem q1431 : (Jvm.Cond.instanceMethod ({ cls := "ShoeHouseModel", name := "byteAt", desc := "(I)I" } : Jvm.MethodName)) ∈ lw_all := lw_g (lw_at lw_m6 140 rfl) rfl
theorem q1432 : (Jvm.Cond.code ({ cls := "ShoeHouseModel", name := "byteAt", desc := "(I)I" } : Jvm.MethodName) prog_11_method_10_code (2 : Nat) (Option.some Jvm.ClassFile.FieldType.int)) ∈ lw_all := lw_g (lw_at lw_m6 141 rfl) rfl
theorem q1433 : (Jvm.Cond.methodLink "ShoeHouseModel" (167 : Nat) ({ cls := "ShoeHouseModel", name := "isLetter", desc := "(I)Z" } : Jvm.MethodName)) ∈ lw_all := lw_g (lw_at lw_m6 142 rfl) rfl
theorem q1434 : (Jvm.Cond.static ({ cls := "ShoeHouseModel", name := "isLetter", desc := "(I)Z" } : Jvm.MethodName)) ∈ lw_all := lw_g (lw_at lw_m6 143 rfl) rfl
theorem q1435 : (Jvm.Cond.code ({ cls := "ShoeHouseModel", name := "isLetter", desc := "(I)Z" } : Jvm.MethodName) prog_11_method_11_code (1 : Nat) (Option.some Jvm.ClassFile.FieldType.boolean)) ∈ lw_all := lw_g (lw_at lw_m6 144 rfl) rfl
theorem q1436 : (Jvm.Cond.methodLink "ShoeHouseModel" (171 : Nat) ({ cls := "ShoeHouseModel", name := "isDigit", desc := "(I)Z" } : Jvm.MethodName)) ∈ lw_all := lw_g (lw_at lw_m6 145 rfl) rfl
theorem q1437 : (Jvm.Cond.static ({ cls := "ShoeHouseModel", name := "isDigit", desc := "(I)Z" } : Jvm.MethodName)) ∈ lw_all := lw_g (lw_at lw_m6 146 rfl) rfl
theorem q1438 : (Jvm.Cond.code ({ cls := "ShoeHouseModel", name := "isDigit", desc := "(I)Z" } : Jvm.MethodName) prog_11_method_12_code (1 : Nat) (Option.some Jvm.ClassFile.FieldType.boolean)) ∈ lw_all := lw_g (lw_at lw_m6 147 rfl) rfl
theorem q1439 : (Jvm.Cond.methodLink "ShoeHouseModel" (190 : Nat) ({ cls := "ShoeHouseModel", name := "isGood", desc := "()Z" } : Jvm.MethodName)) ∈ lw_all := lw_g (lw_at lw_m6 148 rfl) rfl
theorem q1440 : (Jvm.Cond.privateMethod ({ cls := "ShoeHouseModel", name := "isGood", desc := "()Z" } : Jvm.MethodName)) ∈ lw_tbl := lw_at lw_m6 149 rfl
theorem q1441 : (Jvm.Cond.instanceMethod ({ cls := "ShoeHouseModel", name := "isGood", desc := "()Z" } : Jvm.MethodName)) ∈ lw_all := lw_g (lw_at lw_m6 150 rfl) rfl
theorem q1442 : (Jvm.Cond.code ({ cls := "ShoeHouseModel", name := "isGood", desc := "()Z" } : Jvm.MethodName) prog_11_method_18_code (1 : Nat) (Option.some Jvm.ClassFile.FieldType.boolean)) ∈ lw_all := lw_g (lw_at lw_m6 151 rfl) rfl
theorem q1443 : (Jvm.Cond.methodLink "ShoeHouseModel" (245 : Nat) ({ cls := "ShoeHouseModel", name := "line", desc := "()V" } : Jvm.MethodName)) ∈ lw_all := lw_g (lw_at lw_m6 152 rfl) rfl
theorem q1444 : (Jvm.Cond.privateMethod ({ cls := "ShoeHouseModel", name := "line", desc := "()V" } : Jvm.MethodName)) ∈ lw_tbl := lw_at lw_m6 153 rfl
theorem q1445 : (Jvm.Cond.instanceMethod ({ cls := "ShoeHouseModel", name := "line", desc := "()V" } : Jvm.MethodName)) ∈ lw_all := lw_g (lw_at lw_m6 154 rfl) rfl
theorem q1446 : (Jvm.Cond.code ({ cls := "ShoeHouseModel", name := "line", desc := "()V" } : Jvm.MethodName) prog_11_method_26_code (3 : Nat) (Option.none : Option Jvm.ClassFile.FieldType)) ∈ lw_all := lw_g (lw_at lw_m6 155 rfl) rfl
theorem q1447 : (Jvm.Cond.methodLink "ShoeHouseModel" (203 : Nat) ({ cls := "ShoeHouseModel", name := "is", desc := "(I)Z" } : Jvm.MethodName)) ∈ lw_all := lw_g (lw_at lw_m6 156 rfl) rfl
theorem q1448 : (Jvm.Cond.privateMethod ({ cls := "ShoeHouseModel", name := "is", desc := "(I)Z" } : Jvm.MethodName)) ∈ lw_tbl := lw_at lw_m6 157 rfl
theorem q1449 : (Jvm.Cond.instanceMethod ({ cls := "ShoeHouseModel", name := "is", desc := "(I)Z" } : Jvm.MethodName)) ∈ lw_all := lw_g (lw_at lw_m6 158 rfl) rfl
theorem q1450 : (Jvm.Cond.code ({ cls := "ShoeHouseModel", name := "is", desc := "(I)Z" } : Jvm.MethodName) prog_11_method_16_code (2 : Nat) (Option.some Jvm.ClassFile.FieldType.boolean)) ∈ lw_all := lw_g (lw_at lw_m6 159 rfl) rfl
theorem q1451 : (Jvm.Cond.methodLink "ShoeHouseModel" (183 : Nat) ({ cls := "ShoeHouseModel", name := "letters", desc := "(I)J" } : Jvm.MethodName)) ∈ lw_all := lw_g (lw_at lw_m6 160 rfl) rfl
theorem q1452 : (Jvm.Cond.static ({ cls := "ShoeHouseModel", name := "letters", desc := "(I)J" } : Jvm.MethodName)) ∈ lw_all := lw_g (lw_at lw_m6 161 rfl) rfl
theorem q1453 : (Jvm.Cond.code ({ cls := "ShoeHouseModel", name := "letters", desc := "(I)J" } : Jvm.MethodName) prog_11_method_15_code (1 : Nat) (Option.some Jvm.ClassFile.FieldType.long)) ∈ lw_all := lw_g (lw_at lw_m6 162 rfl) rfl
theorem q1454 : (Jvm.Cond.methodLink "ShoeHouseModel" (179 : Nat) ({ cls := "ShoeHouseModel", name := "spelled", desc := "(IIIIII)J" } : Jvm.MethodName)) ∈ lw_all := lw_g (lw_at lw_m6 163 rfl) rfl
theorem q1455 : (Jvm.Cond.static ({ cls := "ShoeHouseModel", name := "spelled", desc := "(IIIIII)J" } : Jvm.MethodName)) ∈ lw_all := lw_g (lw_at lw_m6 164 rfl) rfl
theorem q1456 : (Jvm.Cond.code ({ cls := "ShoeHouseModel", name := "spelled", desc := "(IIIIII)J" } : Jvm.MethodName) prog_11_method_14_code (8 : Nat) (Option.some Jvm.ClassFile.FieldType.long)) ∈ lw_all := lw_g (lw_at lw_m6 165 rfl) rfl
theorem q1457 : (Jvm.Cond.constantLong "ShoeHouseModel" (177 : Nat) (96 : Int64)) ∈ lw_all := lw_g (lw_at lw_m6 166 rfl) rfl
theorem q1458 : (Jvm.Cond.methodLink "ShoeHouseModel" (197 : Nat) ({ cls := "ShoeHouseModel", name := "wrong", desc := "(I)V" } : Jvm.MethodName)) ∈ lw_all := lw_g (lw_at lw_m6 167 rfl) rfl
theorem q1459 : (Jvm.Cond.privateMethod ({ cls := "ShoeHouseModel", name := "wrong", desc := "(I)V" } : Jvm.MethodName)) ∈ lw_tbl := lw_at lw_m6 168 rfl
theorem q1460 : (Jvm.Cond.instanceMethod ({ cls := "ShoeHouseModel", name := "wrong", desc := "(I)V" } : Jvm.MethodName)) ∈ lw_all := lw_g (lw_at lw_m6 169 rfl) rfl
theorem q1461 : (Jvm.Cond.code ({ cls := "ShoeHouseModel", name := "wrong", desc := "(I)V" } : Jvm.MethodName) prog_11_method_17_code (2 : Nat) (Option.none : Option Jvm.ClassFile.FieldType)) ∈ lw_all := lw_g (lw_at lw_m6 170 rfl) rfl
theorem q1462 : (Jvm.Cond.methodLink "ShoeHouseModel" (226 : Nat) ({ cls := "ShoeHouseModel", name := "number", desc := "(II)I" } : Jvm.MethodName)) ∈ lw_all := lw_g (lw_at lw_m6 171 rfl) rfl
theorem q1463 : (Jvm.Cond.privateMethod ({ cls := "ShoeHouseModel", name := "number", desc := "(II)I" } : Jvm.MethodName)) ∈ lw_tbl := lw_at lw_m6 172 rfl
theorem q1464 : (Jvm.Cond.instanceMethod ({ cls := "ShoeHouseModel", name := "number", desc := "(II)I" } : Jvm.MethodName)) ∈ lw_all := lw_g (lw_at lw_m6 173 rfl) rfl
theorem q1465 : (Jvm.Cond.code ({ cls := "ShoeHouseModel", name := "number", desc := "(II)I" } : Jvm.MethodName) prog_11_method_20_code (4 : Nat) (Option.some Jvm.ClassFile.FieldType.int)) ∈ lw_all := lw_g (lw_at lw_m6 174 rfl) rfl
theorem q1466 : (Jvm.Cond.methodLink "ShoeHouseModel" (229 : Nat) ({ cls := "ShoeHouseModel", name := "readsLodger", desc := "()V" } : Jvm.MethodName)) ∈ lw_all := lw_g (lw_at lw_m6 175 rfl) rfl
theorem q1467 : (Jvm.Cond.privateMethod ({ cls := "ShoeHouseModel", name := "readsLodger", desc := "()V" } : Jvm.MethodName)) ∈ lw_tbl := lw_at lw_m6 176 rfl
theorem q1468 : (Jvm.Cond.instanceMethod ({ cls := "ShoeHouseModel", name := "readsLodger", desc := "()V" } : Jvm.MethodName)) ∈ lw_all := lw_g (lw_at lw_m6 177 rfl) rfl
theorem q1469 : (Jvm.Cond.code ({ cls := "ShoeHouseModel", name := "readsLodger", desc := "()V" } : Jvm.MethodName) prog_11_method_24_code (4 : Nat) (Option.none : Option Jvm.ClassFile.FieldType)) ∈ lw_all := lw_g (lw_at lw_m6 178 rfl) rfl
theorem q1470 : (Jvm.Cond.methodLink "ShoeHouseModel" (200 : Nat) ({ cls := "ShoeHouseModel", name := "amongHere", desc := "(I)Z" } : Jvm.MethodName)) ∈ lw_all := lw_g (lw_at lw_m6 179 rfl) rfl
theorem q1471 : (Jvm.Cond.privateMethod ({ cls := "ShoeHouseModel", name := "amongHere", desc := "(I)Z" } : Jvm.MethodName)) ∈ lw_tbl := lw_at lw_m6 180 rfl
theorem q1472 : (Jvm.Cond.instanceMethod ({ cls := "ShoeHouseModel", name := "amongHere", desc := "(I)Z" } : Jvm.MethodName)) ∈ lw_all := lw_g (lw_at lw_m6 181 rfl) rfl
theorem q1473 : (Jvm.Cond.code ({ cls := "ShoeHouseModel", name := "amongHere", desc := "(I)Z" } : Jvm.MethodName) prog_11_method_21_code (2 : Nat) (Option.some Jvm.ClassFile.FieldType.boolean)) ∈ lw_all := lw_g (lw_at lw_m6 182 rfl) rfl
theorem q1474 : (Jvm.Cond.methodLink "ShoeHouseModel" (215 : Nat) ({ cls := "ShoeHouseModel", name := "among", desc := "(I)I" } : Jvm.MethodName)) ∈ lw_all := lw_g (lw_at lw_m6 183 rfl) rfl
theorem q1475 : (Jvm.Cond.privateMethod ({ cls := "ShoeHouseModel", name := "among", desc := "(I)I" } : Jvm.MethodName)) ∈ lw_tbl := lw_at lw_m6 184 rfl
theorem q1476 : (Jvm.Cond.instanceMethod ({ cls := "ShoeHouseModel", name := "among", desc := "(I)I" } : Jvm.MethodName)) ∈ lw_all := lw_g (lw_at lw_m6 185 rfl) rfl
theorem q1477 : (Jvm.Cond.code ({ cls := "ShoeHouseModel", name := "among", desc := "(I)I" } : Jvm.MethodName) prog_11_method_22_code (3 : Nat) (Option.some Jvm.ClassFile.FieldType.int)) ∈ lw_all := lw_g (lw_at lw_m6 186 rfl) rfl
theorem q1478 : (Jvm.Cond.methodLink "ShoeHouseModel" (235 : Nat) ({ cls := "ShoeHouseModel", name := "readsMay", desc := "()V" } : Jvm.MethodName)) ∈ lw_all := lw_g (lw_at lw_m6 187 rfl) rfl
theorem q1479 : (Jvm.Cond.privateMethod ({ cls := "ShoeHouseModel", name := "readsMay", desc := "()V" } : Jvm.MethodName)) ∈ lw_tbl := lw_at lw_m6 188 rfl
theorem q1480 : (Jvm.Cond.instanceMethod ({ cls := "ShoeHouseModel", name := "readsMay", desc := "()V" } : Jvm.MethodName)) ∈ lw_all := lw_g (lw_at lw_m6 189 rfl) rfl
theorem q1481 : (Jvm.Cond.code ({ cls := "ShoeHouseModel", name := "readsMay", desc := "()V" } : Jvm.MethodName) prog_11_method_25_code (7 : Nat) (Option.none : Option Jvm.ClassFile.FieldType)) ∈ lw_all := lw_g (lw_at lw_m6 190 rfl) rfl
theorem q1482 : (Jvm.Cond.methodLink "ShoeHouseModel" (218 : Nat) ({ cls := "ShoeHouseModel", name := "oneOf", desc := "(II)I" } : Jvm.MethodName)) ∈ lw_all := lw_g (lw_at lw_m6 191 rfl) rfl
theorem q1483 : (Jvm.Cond.privateMethod ({ cls := "ShoeHouseModel", name := "oneOf", desc := "(II)I" } : Jvm.MethodName)) ∈ lw_tbl := lw_at lw_m6 192 rfl
theorem q1484 : (Jvm.Cond.instanceMethod ({ cls := "ShoeHouseModel", name := "oneOf", desc := "(II)I" } : Jvm.MethodName)) ∈ lw_all := lw_g (lw_at lw_m6 193 rfl) rfl
theorem q1485 : (Jvm.Cond.code ({ cls := "ShoeHouseModel", name := "oneOf", desc := "(II)I" } : Jvm.MethodName) prog_11_method_23_code (4 : Nat) (Option.some Jvm.ClassFile.FieldType.int)) ∈ lw_all := lw_g (lw_at lw_m6 194 rfl) rfl
theorem q1486 : (Jvm.Cond.methodLink "ShoeHouseModel" (222 : Nat) ({ cls := "ShoeHouseModel", name := "need", desc := "(Z)V" } : Jvm.MethodName)) ∈ lw_all := lw_g (lw_at lw_m6 195 rfl) rfl
theorem q1487 : (Jvm.Cond.privateMethod ({ cls := "ShoeHouseModel", name := "need", desc := "(Z)V" } : Jvm.MethodName)) ∈ lw_tbl := lw_at lw_m6 196 rfl
theorem q1488 : (Jvm.Cond.instanceMethod ({ cls := "ShoeHouseModel", name := "need", desc := "(Z)V" } : Jvm.MethodName)) ∈ lw_all := lw_g (lw_at lw_m6 197 rfl) rfl
theorem q1489 : (Jvm.Cond.code ({ cls := "ShoeHouseModel", name := "need", desc := "(Z)V" } : Jvm.MethodName) prog_11_method_19_code (2 : Nat) (Option.none : Option Jvm.ClassFile.FieldType)) ∈ lw_all := lw_g (lw_at lw_m6 198 rfl) rfl
theorem q1490 : (Jvm.Cond.methodLink "ShoeHouseModel" (260 : Nat) ({ cls := "ShoeHouseModel", name := "copies", desc := "([I[I)V" } : Jvm.MethodName)) ∈ lw_all := lw_g (lw_at lw_m6 199 rfl) rfl
theorem q1491 : (Jvm.Cond.privateMethod ({ cls := "ShoeHouseModel", name := "copies", desc := "([I[I)V" } : Jvm.MethodName)) ∈ lw_tbl := lw_at lw_m6 200 rfl
theorem q1492 : (Jvm.Cond.instanceMethod ({ cls := "ShoeHouseModel", name := "copies", desc := "([I[I)V" } : Jvm.MethodName)) ∈ lw_all := lw_g (lw_at lw_m6 201 rfl) rfl
theorem q1493 : (Jvm.Cond.code ({ cls := "ShoeHouseModel", name := "copies", desc := "([I[I)V" } : Jvm.MethodName) prog_11_method_7_code (4 : Nat) (Option.none : Option Jvm.ClassFile.FieldType)) ∈ lw_all := lw_g (lw_at lw_m6 202 rfl) rfl
theorem q1494 : (Jvm.Cond.methodLink "ShoeHouseModel" (280 : Nat) ({ cls := "ShoeHouseModel", name := "lowest", desc := "(I)I" } : Jvm.MethodName)) ∈ lw_all := lw_g (lw_at lw_m6 203 rfl) rfl
theorem q1495 : (Jvm.Cond.static ({ cls := "ShoeHouseModel", name := "lowest", desc := "(I)I" } : Jvm.MethodName)) ∈ lw_all := lw_g (lw_at lw_m6 204 rfl) rfl
theorem q1496 : (Jvm.Cond.code ({ cls := "ShoeHouseModel", name := "lowest", desc := "(I)I" } : Jvm.MethodName) prog_11_method_29_code (2 : Nat) (Option.some Jvm.ClassFile.FieldType.int)) ∈ lw_all := lw_g (lw_at lw_m6 205 rfl) rfl
theorem q1498 : (Jvm.Cond.instanceMethod ({ cls := "ShoeHouseModel", name := "fault", desc := "()I" } : Jvm.MethodName)) ∈ lw_all := lw_g (lw_at lw_m6 207 rfl) rfl
theorem q1499 : (Jvm.Cond.selects "ShoeHouseModel" ({ cls := "ShoeHouseModel", name := "fault", desc := "()I" } : Jvm.MethodName) ({ cls := "ShoeHouseModel", name := "fault", desc := "()I" } : Jvm.MethodName)) ∈ lw_all := lw_g (lw_at lw_m6 208 rfl) rfl
theorem q1500 : (Jvm.Cond.code ({ cls := "ShoeHouseModel", name := "fault", desc := "()I" } : Jvm.MethodName) prog_11_method_28_code (1 : Nat) (Option.some Jvm.ClassFile.FieldType.int)) ∈ lw_all := lw_g (lw_at lw_m6 209 rfl) rfl
theorem q1502 : (Jvm.Cond.instanceMethod ({ cls := "ShoeHouseModel", name := "count", desc := "(I)I" } : Jvm.MethodName)) ∈ lw_all := lw_g (lw_at lw_m6 211 rfl) rfl
theorem q1503 : (Jvm.Cond.selects "ShoeHouseModel" ({ cls := "ShoeHouseModel", name := "count", desc := "(I)I" } : Jvm.MethodName) ({ cls := "ShoeHouseModel", name := "count", desc := "(I)I" } : Jvm.MethodName)) ∈ lw_all := lw_g (lw_at lw_m6 212 rfl) rfl
theorem q1504 : (Jvm.Cond.code ({ cls := "ShoeHouseModel", name := "count", desc := "(I)I" } : Jvm.MethodName) prog_11_method_30_code (2 : Nat) (Option.some Jvm.ClassFile.FieldType.int)) ∈ lw_all := lw_g (lw_at lw_m6 213 rfl) rfl
theorem q1505 : (Jvm.Cond.methodLink "ShoeHouseModel" (283 : Nat) ({ cls := "ShoeHouseModel", name := "within", desc := "(III)Z" } : Jvm.MethodName)) ∈ lw_all := lw_g (lw_at lw_m6 214 rfl) rfl
theorem q1506 : (Jvm.Cond.static ({ cls := "ShoeHouseModel", name := "within", desc := "(III)Z" } : Jvm.MethodName)) ∈ lw_all := lw_g (lw_at lw_m6 215 rfl) rfl
theorem q1507 : (Jvm.Cond.code ({ cls := "ShoeHouseModel", name := "within", desc := "(III)Z" } : Jvm.MethodName) prog_11_method_4_code (3 : Nat) (Option.some Jvm.ClassFile.FieldType.boolean)) ∈ lw_all := lw_g (lw_at lw_m6 216 rfl) rfl
theorem q1509 : (Jvm.Cond.instanceMethod ({ cls := "ShoeHouseModel", name := "room", desc := "(II)I" } : Jvm.MethodName)) ∈ lw_all := lw_g (lw_at lw_m6 218 rfl) rfl
theorem q1510 : (Jvm.Cond.selects "ShoeHouseModel" ({ cls := "ShoeHouseModel", name := "room", desc := "(II)I" } : Jvm.MethodName) ({ cls := "ShoeHouseModel", name := "room", desc := "(II)I" } : Jvm.MethodName)) ∈ lw_all := lw_g (lw_at lw_m6 219 rfl) rfl
theorem q1511 : (Jvm.Cond.code ({ cls := "ShoeHouseModel", name := "room", desc := "(II)I" } : Jvm.MethodName) prog_11_method_36_code (3 : Nat) (Option.some Jvm.ClassFile.FieldType.int)) ∈ lw_all := lw_g (lw_at lw_m6 220 rfl) rfl
theorem q1512 : (Jvm.Cond.methodLink "ShoeHouseModel" (287 : Nat) ({ cls := "ShoeHouseModel", name := "isRoom", desc := "(I)Z" } : Jvm.MethodName)) ∈ lw_all := lw_g (lw_at lw_m6 221 rfl) rfl
theorem q1513 : (Jvm.Cond.privateMethod ({ cls := "ShoeHouseModel", name := "isRoom", desc := "(I)Z" } : Jvm.MethodName)) ∈ lw_tbl := lw_at lw_m6 222 rfl
theorem q1514 : (Jvm.Cond.instanceMethod ({ cls := "ShoeHouseModel", name := "isRoom", desc := "(I)Z" } : Jvm.MethodName)) ∈ lw_all := lw_g (lw_at lw_m6 223 rfl) rfl
theorem q1515 : (Jvm.Cond.code ({ cls := "ShoeHouseModel", name := "isRoom", desc := "(I)Z" } : Jvm.MethodName) prog_11_method_31_code (2 : Nat) (Option.some Jvm.ClassFile.FieldType.boolean)) ∈ lw_all := lw_g (lw_at lw_m6 224 rfl) rfl
theorem q1516 : (Jvm.Cond.methodLink "ShoeHouseModel" (290 : Nat) ({ cls := "ShoeHouseModel", name := "isTwo", desc := "(I)Z" } : Jvm.MethodName)) ∈ lw_all := lw_g (lw_at lw_m6 225 rfl) rfl
theorem q1517 : (Jvm.Cond.privateMethod ({ cls := "ShoeHouseModel", name := "isTwo", desc := "(I)Z" } : Jvm.MethodName)) ∈ lw_tbl := lw_at lw_m6 226 rfl
theorem q1518 : (Jvm.Cond.instanceMethod ({ cls := "ShoeHouseModel", name := "isTwo", desc := "(I)Z" } : Jvm.MethodName)) ∈ lw_all := lw_g (lw_at lw_m6 227 rfl) rfl
theorem q1519 : (Jvm.Cond.code ({ cls := "ShoeHouseModel", name := "isTwo", desc := "(I)Z" } : Jvm.MethodName) prog_11_method_35_code (2 : Nat) (Option.some Jvm.ClassFile.FieldType.boolean)) ∈ lw_all := lw_g (lw_at lw_m6 228 rfl) rfl
theorem q1521 : (Jvm.Cond.instanceMethod ({ cls := "ShoeHouseModel", name := "lodger", desc := "(II)I" } : Jvm.MethodName)) ∈ lw_all := lw_g (lw_at lw_m6 230 rfl) rfl
theorem q1522 : (Jvm.Cond.selects "ShoeHouseModel" ({ cls := "ShoeHouseModel", name := "lodger", desc := "(II)I" } : Jvm.MethodName) ({ cls := "ShoeHouseModel", name := "lodger", desc := "(II)I" } : Jvm.MethodName)) ∈ lw_all := lw_g (lw_at lw_m6 231 rfl) rfl
theorem q1523 : (Jvm.Cond.code ({ cls := "ShoeHouseModel", name := "lodger", desc := "(II)I" } : Jvm.MethodName) prog_11_method_41_code (3 : Nat) (Option.some Jvm.ClassFile.FieldType.int)) ∈ lw_all := lw_g (lw_at lw_m6 232 rfl) rfl
theorem q1524 : (Jvm.Cond.methodLink "ShoeHouseModel" (302 : Nat) ({ cls := "ShoeHouseModel", name := "isLodger", desc := "(I)Z" } : Jvm.MethodName)) ∈ lw_all := lw_g (lw_at lw_m6 233 rfl) rfl
theorem q1525 : (Jvm.Cond.privateMethod ({ cls := "ShoeHouseModel", name := "isLodger", desc := "(I)Z" } : Jvm.MethodName)) ∈ lw_tbl := lw_at lw_m6 234 rfl
theorem q1526 : (Jvm.Cond.instanceMethod ({ cls := "ShoeHouseModel", name := "isLodger", desc := "(I)Z" } : Jvm.MethodName)) ∈ lw_all := lw_g (lw_at lw_m6 235 rfl) rfl
theorem q1527 : (Jvm.Cond.code ({ cls := "ShoeHouseModel", name := "isLodger", desc := "(I)Z" } : Jvm.MethodName) prog_11_method_32_code (2 : Nat) (Option.some Jvm.ClassFile.FieldType.boolean)) ∈ lw_all := lw_g (lw_at lw_m6 236 rfl) rfl
theorem q1528 : (Jvm.Cond.methodLink "ShoeHouseModel" (293 : Nat) ({ cls := "ShoeHouseModel", name := "has", desc := "(II)I" } : Jvm.MethodName)) ∈ lw_all := lw_g (lw_at lw_m6 237 rfl) rfl
theorem q1529 : (Jvm.Cond.privateMethod ({ cls := "ShoeHouseModel", name := "has", desc := "(II)I" } : Jvm.MethodName)) ∈ lw_tbl := lw_at lw_m6 238 rfl
theorem q1530 : (Jvm.Cond.instanceMethod ({ cls := "ShoeHouseModel", name := "has", desc := "(II)I" } : Jvm.MethodName)) ∈ lw_all := lw_g (lw_at lw_m6 239 rfl) rfl
theorem q1531 : (Jvm.Cond.code ({ cls := "ShoeHouseModel", name := "has", desc := "(II)I" } : Jvm.MethodName) prog_11_method_37_code (5 : Nat) (Option.some Jvm.ClassFile.FieldType.int)) ∈ lw_all := lw_g (lw_at lw_m7 0 rfl) rfl
theorem q1533 : (Jvm.Cond.instanceMethod ({ cls := "ShoeHouseModel", name := "may", desc := "(III)I" } : Jvm.MethodName)) ∈ lw_all := lw_g (lw_at lw_m7 2 rfl) rfl
theorem q1534 : (Jvm.Cond.selects "ShoeHouseModel" ({ cls := "ShoeHouseModel", name := "may", desc := "(III)I" } : Jvm.MethodName) ({ cls := "ShoeHouseModel", name := "may", desc := "(III)I" } : Jvm.MethodName)) ∈ lw_all := lw_g (lw_at lw_m7 3 rfl) rfl
theorem q1535 : (Jvm.Cond.code ({ cls := "ShoeHouseModel", name := "may", desc := "(III)I" } : Jvm.MethodName) prog_11_method_43_code (6 : Nat) (Option.some Jvm.ClassFile.FieldType.int)) ∈ lw_all := lw_g (lw_at lw_m7 4 rfl) rfl
theorem q1536 : (Jvm.Cond.methodLink "ShoeHouseModel" (305 : Nat) ({ cls := "ShoeHouseModel", name := "isHour", desc := "(I)Z" } : Jvm.MethodName)) ∈ lw_all := lw_g (lw_at lw_m7 5 rfl) rfl
theorem q1537 : (Jvm.Cond.privateMethod ({ cls := "ShoeHouseModel", name := "isHour", desc := "(I)Z" } : Jvm.MethodName)) ∈ lw_tbl := lw_at lw_m7 6 rfl
theorem q1538 : (Jvm.Cond.instanceMethod ({ cls := "ShoeHouseModel", name := "isHour", desc := "(I)Z" } : Jvm.MethodName)) ∈ lw_all := lw_g (lw_at lw_m7 7 rfl) rfl
theorem q1539 : (Jvm.Cond.code ({ cls := "ShoeHouseModel", name := "isHour", desc := "(I)Z" } : Jvm.MethodName) prog_11_method_34_code (2 : Nat) (Option.some Jvm.ClassFile.FieldType.boolean)) ∈ lw_all := lw_g (lw_at lw_m7 8 rfl) rfl
theorem q1540 : (Jvm.Cond.methodLink "ShoeHouseModel" (308 : Nat) ({ cls := "ShoeHouseModel", name := "bits", desc := "(I)I" } : Jvm.MethodName)) ∈ lw_all := lw_g (lw_at lw_m7 9 rfl) rfl
theorem q1541 : (Jvm.Cond.static ({ cls := "ShoeHouseModel", name := "bits", desc := "(I)I" } : Jvm.MethodName)) ∈ lw_all := lw_g (lw_at lw_m7 10 rfl) rfl
theorem q1542 : (Jvm.Cond.code ({ cls := "ShoeHouseModel", name := "bits", desc := "(I)I" } : Jvm.MethodName) prog_11_method_6_code (3 : Nat) (Option.some Jvm.ClassFile.FieldType.int)) ∈ lw_all := lw_g (lw_at lw_m7 11 rfl) rfl
theorem q1543 : (Jvm.Cond.methodLink "ShoeHouseModel" (311 : Nat) ({ cls := "ShoeHouseModel", name := "toldOf", desc := "(I)I" } : Jvm.MethodName)) ∈ lw_all := lw_g (lw_at lw_m7 12 rfl) rfl
theorem q1544 : (Jvm.Cond.static ({ cls := "ShoeHouseModel", name := "toldOf", desc := "(I)I" } : Jvm.MethodName)) ∈ lw_all := lw_g (lw_at lw_m7 13 rfl) rfl
theorem q1545 : (Jvm.Cond.code ({ cls := "ShoeHouseModel", name := "toldOf", desc := "(I)I" } : Jvm.MethodName) prog_11_method_42_code (1 : Nat) (Option.some Jvm.ClassFile.FieldType.int)) ∈ lw_all := lw_g (lw_at lw_m7 14 rfl) rfl
theorem q1547 : (Jvm.Cond.instanceMethod ({ cls := "ShoeHouseModel", name := "says", desc := "(II)I" } : Jvm.MethodName)) ∈ lw_all := lw_g (lw_at lw_m7 16 rfl) rfl
theorem q1548 : (Jvm.Cond.selects "ShoeHouseModel" ({ cls := "ShoeHouseModel", name := "says", desc := "(II)I" } : Jvm.MethodName) ({ cls := "ShoeHouseModel", name := "says", desc := "(II)I" } : Jvm.MethodName)) ∈ lw_all := lw_g (lw_at lw_m7 17 rfl) rfl
theorem q1549 : (Jvm.Cond.code ({ cls := "ShoeHouseModel", name := "says", desc := "(II)I" } : Jvm.MethodName) prog_11_method_44_code (3 : Nat) (Option.some Jvm.ClassFile.FieldType.int)) ∈ lw_all := lw_g (lw_at lw_m7 18 rfl) rfl
theorem q1550 : (Jvm.Cond.methodLink "ShoeHouseModel" (314 : Nat) ({ cls := "ShoeHouseModel", name := "signOf", desc := "(II)I" } : Jvm.MethodName)) ∈ lw_all := lw_g (lw_at lw_m7 19 rfl) rfl
theorem q1551 : (Jvm.Cond.privateMethod ({ cls := "ShoeHouseModel", name := "signOf", desc := "(II)I" } : Jvm.MethodName)) ∈ lw_tbl := lw_at lw_m7 20 rfl
theorem q1552 : (Jvm.Cond.instanceMethod ({ cls := "ShoeHouseModel", name := "signOf", desc := "(II)I" } : Jvm.MethodName)) ∈ lw_all := lw_g (lw_at lw_m7 21 rfl) rfl
theorem q1553 : (Jvm.Cond.code ({ cls := "ShoeHouseModel", name := "signOf", desc := "(II)I" } : Jvm.MethodName) prog_11_method_40_code (3 : Nat) (Option.some Jvm.ClassFile.FieldType.int)) ∈ lw_all := lw_g (lw_at lw_m7 22 rfl) rfl
theorem q1554 : (Jvm.Cond.methodLink "ShoeHouseModel" (296 : Nat) ({ cls := "ShoeHouseModel", name := "lawOf", desc := "(I)I" } : Jvm.MethodName)) ∈ lw_all := lw_g (lw_at lw_m7 23 rfl) rfl
theorem q1555 : (Jvm.Cond.privateMethod ({ cls := "ShoeHouseModel", name := "lawOf", desc := "(I)I" } : Jvm.MethodName)) ∈ lw_tbl := lw_at lw_m7 24 rfl
theorem q1556 : (Jvm.Cond.instanceMethod ({ cls := "ShoeHouseModel", name := "lawOf", desc := "(I)I" } : Jvm.MethodName)) ∈ lw_all := lw_g (lw_at lw_m7 25 rfl) rfl
theorem q1557 : (Jvm.Cond.code ({ cls := "ShoeHouseModel", name := "lawOf", desc := "(I)I" } : Jvm.MethodName) prog_11_method_39_code (2 : Nat) (Option.some Jvm.ClassFile.FieldType.int)) ∈ lw_all := lw_g (lw_at lw_m7 26 rfl) rfl
theorem q1558 : (Jvm.Cond.methodLink "ShoeHouseModel" (299 : Nat) ({ cls := "ShoeHouseModel", name := "both", desc := "(I)I" } : Jvm.MethodName)) ∈ lw_all := lw_g (lw_at lw_m7 27 rfl) rfl
theorem q1559 : (Jvm.Cond.privateMethod ({ cls := "ShoeHouseModel", name := "both", desc := "(I)I" } : Jvm.MethodName)) ∈ lw_tbl := lw_at lw_m7 28 rfl
theorem q1560 : (Jvm.Cond.instanceMethod ({ cls := "ShoeHouseModel", name := "both", desc := "(I)I" } : Jvm.MethodName)) ∈ lw_all := lw_g (lw_at lw_m7 29 rfl) rfl
theorem q1561 : (Jvm.Cond.code ({ cls := "ShoeHouseModel", name := "both", desc := "(I)I" } : Jvm.MethodName) prog_11_method_38_code (2 : Nat) (Option.some Jvm.ClassFile.FieldType.int)) ∈ lw_all := lw_g (lw_at lw_m7 30 rfl) rfl
theorem q1563 : (Jvm.Cond.instanceMethod ({ cls := "ShoeHouseModel", name := "lend", desc := "(III)I" } : Jvm.MethodName)) ∈ lw_all := lw_g (lw_at lw_m7 32 rfl) rfl
theorem q1564 : (Jvm.Cond.selects "ShoeHouseModel" ({ cls := "ShoeHouseModel", name := "lend", desc := "(III)I" } : Jvm.MethodName) ({ cls := "ShoeHouseModel", name := "lend", desc := "(III)I" } : Jvm.MethodName)) ∈ lw_all := lw_g (lw_at lw_m7 33 rfl) rfl
theorem q1565 : (Jvm.Cond.code ({ cls := "ShoeHouseModel", name := "lend", desc := "(III)I" } : Jvm.MethodName) prog_11_method_46_code (4 : Nat) (Option.some Jvm.ClassFile.FieldType.int)) ∈ lw_all := lw_g (lw_at lw_m7 34 rfl) rfl
theorem q1566 : (Jvm.Cond.methodLink "ShoeHouseModel" (317 : Nat) ({ cls := "ShoeHouseModel", name := "refuses", desc := "(I)I" } : Jvm.MethodName)) ∈ lw_all := lw_g (lw_at lw_m7 35 rfl) rfl
theorem q1567 : (Jvm.Cond.privateMethod ({ cls := "ShoeHouseModel", name := "refuses", desc := "(I)I" } : Jvm.MethodName)) ∈ lw_tbl := lw_at lw_m7 36 rfl
theorem q1568 : (Jvm.Cond.instanceMethod ({ cls := "ShoeHouseModel", name := "refuses", desc := "(I)I" } : Jvm.MethodName)) ∈ lw_all := lw_g (lw_at lw_m7 37 rfl) rfl
theorem q1569 : (Jvm.Cond.code ({ cls := "ShoeHouseModel", name := "refuses", desc := "(I)I" } : Jvm.MethodName) prog_11_method_45_code (2 : Nat) (Option.some Jvm.ClassFile.FieldType.int)) ∈ lw_all := lw_g (lw_at lw_m7 38 rfl) rfl
theorem q1571 : (Jvm.Cond.instanceMethod ({ cls := "ShoeHouseModel", name := "back", desc := "()I" } : Jvm.MethodName)) ∈ lw_all := lw_g (lw_at lw_m7 40 rfl) rfl
theorem q1572 : (Jvm.Cond.selects "ShoeHouseModel" ({ cls := "ShoeHouseModel", name := "back", desc := "()I" } : Jvm.MethodName) ({ cls := "ShoeHouseModel", name := "back", desc := "()I" } : Jvm.MethodName)) ∈ lw_all := lw_g (lw_at lw_m7 41 rfl) rfl
theorem q1573 : (Jvm.Cond.code ({ cls := "ShoeHouseModel", name := "back", desc := "()I" } : Jvm.MethodName) prog_11_method_47_code (1 : Nat) (Option.some Jvm.ClassFile.FieldType.int)) ∈ lw_all := lw_g (lw_at lw_m7 42 rfl) rfl
theorem q1575 : (Jvm.Cond.instanceMethod ({ cls := "ShoeHouseModel", name := "draw", desc := "(I)V" } : Jvm.MethodName)) ∈ lw_all := lw_g (lw_at lw_m7 44 rfl) rfl
theorem q1576 : (Jvm.Cond.selects "ShoeHouseModel" ({ cls := "ShoeHouseModel", name := "draw", desc := "(I)V" } : Jvm.MethodName) ({ cls := "ShoeHouseModel", name := "draw", desc := "(I)V" } : Jvm.MethodName)) ∈ lw_all := lw_g (lw_at lw_m7 45 rfl) rfl
theorem q1577 : (Jvm.Cond.code ({ cls := "ShoeHouseModel", name := "draw", desc := "(I)V" } : Jvm.MethodName) prog_11_method_48_code (8 : Nat) (Option.none : Option Jvm.ClassFile.FieldType)) ∈ lw_all := lw_g (lw_at lw_m7 46 rfl) rfl
theorem q1578 : (Jvm.Cond.constant "ShoeHouseModel" (320 : Nat) (1103515245 : Int32)) ∈ lw_all := lw_g (lw_at lw_m7 47 rfl) rfl
theorem q1580 : (Jvm.Cond.instanceMethod ({ cls := "ShoeHouseModel", name := "does", desc := "(II)I" } : Jvm.MethodName)) ∈ lw_all := lw_g (lw_at lw_m7 49 rfl) rfl
theorem q1581 : (Jvm.Cond.selects "ShoeHouseModel" ({ cls := "ShoeHouseModel", name := "does", desc := "(II)I" } : Jvm.MethodName) ({ cls := "ShoeHouseModel", name := "does", desc := "(II)I" } : Jvm.MethodName)) ∈ lw_all := lw_g (lw_at lw_m7 50 rfl) rfl
theorem q1582 : (Jvm.Cond.code ({ cls := "ShoeHouseModel", name := "does", desc := "(II)I" } : Jvm.MethodName) prog_11_method_49_code (3 : Nat) (Option.some Jvm.ClassFile.FieldType.int)) ∈ lw_all := lw_g (lw_at lw_m7 51 rfl) rfl
theorem q1584 : (Jvm.Cond.instanceMethod ({ cls := "ShoeHouseModel", name := "sign", desc := "(II)I" } : Jvm.MethodName)) ∈ lw_all := lw_g (lw_at lw_m7 53 rfl) rfl
theorem q1585 : (Jvm.Cond.selects "ShoeHouseModel" ({ cls := "ShoeHouseModel", name := "sign", desc := "(II)I" } : Jvm.MethodName) ({ cls := "ShoeHouseModel", name := "sign", desc := "(II)I" } : Jvm.MethodName)) ∈ lw_all := lw_g (lw_at lw_m7 54 rfl) rfl
theorem q1586 : (Jvm.Cond.code ({ cls := "ShoeHouseModel", name := "sign", desc := "(II)I" } : Jvm.MethodName) prog_11_method_51_code (3 : Nat) (Option.some Jvm.ClassFile.FieldType.int)) ∈ lw_all := lw_g (lw_at lw_m7 55 rfl) rfl
theorem q1587 : (Jvm.Cond.methodLink "ShoeHouseModel" (321 : Nat) ({ cls := "ShoeHouseModel", name := "signAt", desc := "(II)I" } : Jvm.MethodName)) ∈ lw_all := lw_g (lw_at lw_m7 56 rfl) rfl
theorem q1588 : (Jvm.Cond.privateMethod ({ cls := "ShoeHouseModel", name := "signAt", desc := "(II)I" } : Jvm.MethodName)) ∈ lw_tbl := lw_at lw_m7 57 rfl
theorem q1589 : (Jvm.Cond.instanceMethod ({ cls := "ShoeHouseModel", name := "signAt", desc := "(II)I" } : Jvm.MethodName)) ∈ lw_all := lw_g (lw_at lw_m7 58 rfl) rfl
theorem q1590 : (Jvm.Cond.code ({ cls := "ShoeHouseModel", name := "signAt", desc := "(II)I" } : Jvm.MethodName) prog_11_method_50_code (3 : Nat) (Option.some Jvm.ClassFile.FieldType.int)) ∈ lw_all := lw_g (lw_at lw_m7 59 rfl) rfl
theorem q1592 : (Jvm.Cond.instanceMethod ({ cls := "ShoeHouseModel", name := "look", desc := "(III)I" } : Jvm.MethodName)) ∈ lw_all := lw_g (lw_at lw_m7 61 rfl) rfl
theorem q1593 : (Jvm.Cond.selects "ShoeHouseModel" ({ cls := "ShoeHouseModel", name := "look", desc := "(III)I" } : Jvm.MethodName) ({ cls := "ShoeHouseModel", name := "look", desc := "(III)I" } : Jvm.MethodName)) ∈ lw_all := lw_g (lw_at lw_m7 62 rfl) rfl
theorem q1594 : (Jvm.Cond.code ({ cls := "ShoeHouseModel", name := "look", desc := "(III)I" } : Jvm.MethodName) prog_11_method_52_code (5 : Nat) (Option.some Jvm.ClassFile.FieldType.int)) ∈ lw_all := lw_g (lw_at lw_m7 63 rfl) rfl
theorem q1595 : (Jvm.Cond.methodLink "ShoeHouseModel" (324 : Nat) ({ cls := "ShoeHouseModel", name := "isFinder", desc := "(I)Z" } : Jvm.MethodName)) ∈ lw_all := lw_g (lw_at lw_m7 64 rfl) rfl
theorem q1596 : (Jvm.Cond.privateMethod ({ cls := "ShoeHouseModel", name := "isFinder", desc := "(I)Z" } : Jvm.MethodName)) ∈ lw_tbl := lw_at lw_m7 65 rfl
theorem q1597 : (Jvm.Cond.instanceMethod ({ cls := "ShoeHouseModel", name := "isFinder", desc := "(I)Z" } : Jvm.MethodName)) ∈ lw_all := lw_g (lw_at lw_m7 66 rfl) rfl
theorem q1598 : (Jvm.Cond.code ({ cls := "ShoeHouseModel", name := "isFinder", desc := "(I)Z" } : Jvm.MethodName) prog_11_method_33_code (2 : Nat) (Option.some Jvm.ClassFile.FieldType.boolean)) ∈ lw_all := lw_g (lw_at lw_m7 67 rfl) rfl
theorem q1600 : (Jvm.Cond.instanceMethod ({ cls := "ShoeHouseModel", name := "theft", desc := "(II)I" } : Jvm.MethodName)) ∈ lw_all := lw_g (lw_at lw_m7 69 rfl) rfl
theorem q1601 : (Jvm.Cond.selects "ShoeHouseModel" ({ cls := "ShoeHouseModel", name := "theft", desc := "(II)I" } : Jvm.MethodName) ({ cls := "ShoeHouseModel", name := "theft", desc := "(II)I" } : Jvm.MethodName)) ∈ lw_all := lw_g (lw_at lw_m7 70 rfl) rfl
theorem q1602 : (Jvm.Cond.code ({ cls := "ShoeHouseModel", name := "theft", desc := "(II)I" } : Jvm.MethodName) prog_11_method_53_code (5 : Nat) (Option.some Jvm.ClassFile.FieldType.int)) ∈ lw_all := lw_g (lw_at lw_m7 71 rfl) rfl
theorem q1604 : (Jvm.Cond.instanceMethod ({ cls := "ShoeHouseModel", name := "see", desc := "(III)I" } : Jvm.MethodName)) ∈ lw_all := lw_g (lw_at lw_m7 73 rfl) rfl
theorem q1605 : (Jvm.Cond.selects "ShoeHouseModel" ({ cls := "ShoeHouseModel", name := "see", desc := "(III)I" } : Jvm.MethodName) ({ cls := "ShoeHouseModel", name := "see", desc := "(III)I" } : Jvm.MethodName)) ∈ lw_all := lw_g (lw_at lw_m7 74 rfl) rfl
theorem q1606 : (Jvm.Cond.code ({ cls := "ShoeHouseModel", name := "see", desc := "(III)I" } : Jvm.MethodName) prog_11_method_54_code (5 : Nat) (Option.some Jvm.ClassFile.FieldType.int)) ∈ lw_all := lw_g (lw_at lw_m7 75 rfl) rfl
theorem q1608 : (Jvm.Cond.instanceMethod ({ cls := "ShoeHouseModel", name := "forget", desc := "()I" } : Jvm.MethodName)) ∈ lw_all := lw_g (lw_at lw_m7 77 rfl) rfl
theorem q1609 : (Jvm.Cond.selects "ShoeHouseModel" ({ cls := "ShoeHouseModel", name := "forget", desc := "()I" } : Jvm.MethodName) ({ cls := "ShoeHouseModel", name := "forget", desc := "()I" } : Jvm.MethodName)) ∈ lw_all := lw_g (lw_at lw_m7 78 rfl) rfl
theorem q1610 : (Jvm.Cond.code ({ cls := "ShoeHouseModel", name := "forget", desc := "()I" } : Jvm.MethodName) prog_11_method_55_code (2 : Nat) (Option.some Jvm.ClassFile.FieldType.int)) ∈ lw_all := lw_g (lw_at lw_m7 79 rfl) rfl
theorem q1612 : (Jvm.Cond.instanceMethod ({ cls := "ShoeHouseModel", name := "cases", desc := "()I" } : Jvm.MethodName)) ∈ lw_all := lw_g (lw_at lw_m7 81 rfl) rfl
theorem q1613 : (Jvm.Cond.selects "ShoeHouseModel" ({ cls := "ShoeHouseModel", name := "cases", desc := "()I" } : Jvm.MethodName) ({ cls := "ShoeHouseModel", name := "cases", desc := "()I" } : Jvm.MethodName)) ∈ lw_all := lw_g (lw_at lw_m7 82 rfl) rfl
theorem q1614 : (Jvm.Cond.code ({ cls := "ShoeHouseModel", name := "cases", desc := "()I" } : Jvm.MethodName) prog_11_method_62_code (1 : Nat) (Option.some Jvm.ClassFile.FieldType.int)) ∈ lw_all := lw_g (lw_at lw_m7 83 rfl) rfl
theorem q1615 : (Jvm.Cond.methodLink "ShoeHouseModel" (341 : Nat) ({ cls := "ShoeHouseModel", name := "hour", desc := "()I" } : Jvm.MethodName)) ∈ lw_all := lw_g (lw_at lw_m7 84 rfl) rfl
theorem q1616 : (Jvm.Cond.privateMethod ({ cls := "ShoeHouseModel", name := "hour", desc := "()I" } : Jvm.MethodName)) ∈ lw_tbl := lw_at lw_m7 85 rfl
theorem q1617 : (Jvm.Cond.instanceMethod ({ cls := "ShoeHouseModel", name := "hour", desc := "()I" } : Jvm.MethodName)) ∈ lw_all := lw_g (lw_at lw_m7 86 rfl) rfl
theorem q1618 : (Jvm.Cond.code ({ cls := "ShoeHouseModel", name := "hour", desc := "()I" } : Jvm.MethodName) prog_11_method_56_code (1 : Nat) (Option.some Jvm.ClassFile.FieldType.int)) ∈ lw_all := lw_g (lw_at lw_m7 87 rfl) rfl
theorem q1619 : (Jvm.Cond.methodLink "ShoeHouseModel" (345 : Nat) ({ cls := "ShoeHouseModel", name := "isSpent", desc := "(I)Z" } : Jvm.MethodName)) ∈ lw_all := lw_g (lw_at lw_m7 88 rfl) rfl
theorem q1620 : (Jvm.Cond.privateMethod ({ cls := "ShoeHouseModel", name := "isSpent", desc := "(I)Z" } : Jvm.MethodName)) ∈ lw_tbl := lw_at lw_m7 89 rfl
theorem q1621 : (Jvm.Cond.instanceMethod ({ cls := "ShoeHouseModel", name := "isSpent", desc := "(I)Z" } : Jvm.MethodName)) ∈ lw_all := lw_g (lw_at lw_m7 90 rfl) rfl
theorem q1622 : (Jvm.Cond.code ({ cls := "ShoeHouseModel", name := "isSpent", desc := "(I)Z" } : Jvm.MethodName) prog_11_method_59_code (4 : Nat) (Option.some Jvm.ClassFile.FieldType.boolean)) ∈ lw_all := lw_g (lw_at lw_m7 91 rfl) rfl
theorem q1623 : (Jvm.Cond.methodLink "ShoeHouseModel" (348 : Nat) ({ cls := "ShoeHouseModel", name := "seeks", desc := "(II[I)V" } : Jvm.MethodName)) ∈ lw_all := lw_g (lw_at lw_m7 92 rfl) rfl
theorem q1624 : (Jvm.Cond.privateMethod ({ cls := "ShoeHouseModel", name := "seeks", desc := "(II[I)V" } : Jvm.MethodName)) ∈ lw_tbl := lw_at lw_m7 93 rfl
theorem q1625 : (Jvm.Cond.instanceMethod ({ cls := "ShoeHouseModel", name := "seeks", desc := "(II[I)V" } : Jvm.MethodName)) ∈ lw_all := lw_g (lw_at lw_m7 94 rfl) rfl
theorem q1626 : (Jvm.Cond.code ({ cls := "ShoeHouseModel", name := "seeks", desc := "(II[I)V" } : Jvm.MethodName) prog_11_method_61_code (6 : Nat) (Option.none : Option Jvm.ClassFile.FieldType)) ∈ lw_all := lw_g (lw_at lw_m7 95 rfl) rfl
theorem q1627 : (Jvm.Cond.methodLink "ShoeHouseModel" (334 : Nat) ({ cls := "ShoeHouseModel", name := "fits", desc := "(I[I)Z" } : Jvm.MethodName)) ∈ lw_all := lw_g (lw_at lw_m7 96 rfl) rfl
theorem q1628 : (Jvm.Cond.privateMethod ({ cls := "ShoeHouseModel", name := "fits", desc := "(I[I)Z" } : Jvm.MethodName)) ∈ lw_tbl := lw_at lw_m7 97 rfl
theorem q1629 : (Jvm.Cond.instanceMethod ({ cls := "ShoeHouseModel", name := "fits", desc := "(I[I)Z" } : Jvm.MethodName)) ∈ lw_all := lw_g (lw_at lw_m7 98 rfl) rfl
theorem q1630 : (Jvm.Cond.code ({ cls := "ShoeHouseModel", name := "fits", desc := "(I[I)Z" } : Jvm.MethodName) prog_11_method_60_code (5 : Nat) (Option.some Jvm.ClassFile.FieldType.boolean)) ∈ lw_all := lw_g (lw_at lw_m7 99 rfl) rfl
theorem q1631 : (Jvm.Cond.methodLink "ShoeHouseModel" (338 : Nat) ({ cls := "ShoeHouseModel", name := "counts", desc := "(I)Z" } : Jvm.MethodName)) ∈ lw_all := lw_g (lw_at lw_m7 100 rfl) rfl
theorem q1632 : (Jvm.Cond.privateMethod ({ cls := "ShoeHouseModel", name := "counts", desc := "(I)Z" } : Jvm.MethodName)) ∈ lw_tbl := lw_at lw_m7 101 rfl
theorem q1633 : (Jvm.Cond.instanceMethod ({ cls := "ShoeHouseModel", name := "counts", desc := "(I)Z" } : Jvm.MethodName)) ∈ lw_all := lw_g (lw_at lw_m7 102 rfl) rfl
theorem q1634 : (Jvm.Cond.code ({ cls := "ShoeHouseModel", name := "counts", desc := "(I)Z" } : Jvm.MethodName) prog_11_method_58_code (3 : Nat) (Option.some Jvm.ClassFile.FieldType.boolean)) ∈ lw_all := lw_g (lw_at lw_m7 103 rfl) rfl
theorem q1635 : (Jvm.Cond.methodLink "ShoeHouseModel" (327 : Nat) ({ cls := "ShoeHouseModel", name := "behind", desc := "(III)I" } : Jvm.MethodName)) ∈ lw_all := lw_g (lw_at lw_m7 104 rfl) rfl
theorem q1636 : (Jvm.Cond.privateMethod ({ cls := "ShoeHouseModel", name := "behind", desc := "(III)I" } : Jvm.MethodName)) ∈ lw_tbl := lw_at lw_m7 105 rfl
theorem q1637 : (Jvm.Cond.instanceMethod ({ cls := "ShoeHouseModel", name := "behind", desc := "(III)I" } : Jvm.MethodName)) ∈ lw_all := lw_g (lw_at lw_m7 106 rfl) rfl
theorem q1638 : (Jvm.Cond.code ({ cls := "ShoeHouseModel", name := "behind", desc := "(III)I" } : Jvm.MethodName) prog_11_method_57_code (5 : Nat) (Option.some Jvm.ClassFile.FieldType.int)) ∈ lw_all := lw_g (lw_at lw_m7 107 rfl) rfl
theorem q1640 : (Jvm.Cond.instanceMethod ({ cls := "ShoeHouseModel", name := "inCase", desc := "(II)I" } : Jvm.MethodName)) ∈ lw_all := lw_g (lw_at lw_m7 109 rfl) rfl
theorem q1641 : (Jvm.Cond.selects "ShoeHouseModel" ({ cls := "ShoeHouseModel", name := "inCase", desc := "(II)I" } : Jvm.MethodName) ({ cls := "ShoeHouseModel", name := "inCase", desc := "(II)I" } : Jvm.MethodName)) ∈ lw_all := lw_g (lw_at lw_m7 110 rfl) rfl
theorem q1642 : (Jvm.Cond.code ({ cls := "ShoeHouseModel", name := "inCase", desc := "(II)I" } : Jvm.MethodName) prog_11_method_63_code (3 : Nat) (Option.some Jvm.ClassFile.FieldType.int)) ∈ lw_all := lw_g (lw_at lw_m7 111 rfl) rfl
theorem q1644 : (Jvm.Cond.instanceMethod ({ cls := "ShoeHouseModel", name := "sure", desc := "(I)I" } : Jvm.MethodName)) ∈ lw_all := lw_g (lw_at lw_m7 113 rfl) rfl
theorem q1645 : (Jvm.Cond.selects "ShoeHouseModel" ({ cls := "ShoeHouseModel", name := "sure", desc := "(I)I" } : Jvm.MethodName) ({ cls := "ShoeHouseModel", name := "sure", desc := "(I)I" } : Jvm.MethodName)) ∈ lw_all := lw_g (lw_at lw_m7 114 rfl) rfl
theorem q1646 : (Jvm.Cond.code ({ cls := "ShoeHouseModel", name := "sure", desc := "(I)I" } : Jvm.MethodName) prog_11_method_67_code (8 : Nat) (Option.some Jvm.ClassFile.FieldType.int)) ∈ lw_all := lw_g (lw_at lw_m7 115 rfl) rfl
theorem q1647 : (Jvm.Cond.methodLink "ShoeHouseModel" (359 : Nat) ({ cls := "ShoeHouseModel", name := "with", desc := "(I)I" } : Jvm.MethodName)) ∈ lw_all := lw_g (lw_at lw_m7 116 rfl) rfl
theorem q1648 : (Jvm.Cond.privateMethod ({ cls := "ShoeHouseModel", name := "with", desc := "(I)I" } : Jvm.MethodName)) ∈ lw_tbl := lw_at lw_m7 117 rfl
theorem q1649 : (Jvm.Cond.instanceMethod ({ cls := "ShoeHouseModel", name := "with", desc := "(I)I" } : Jvm.MethodName)) ∈ lw_all := lw_g (lw_at lw_m7 118 rfl) rfl
theorem q1650 : (Jvm.Cond.code ({ cls := "ShoeHouseModel", name := "with", desc := "(I)I" } : Jvm.MethodName) prog_11_method_66_code (4 : Nat) (Option.some Jvm.ClassFile.FieldType.int)) ∈ lw_all := lw_g (lw_at lw_m7 119 rfl) rfl
theorem q1651 : (Jvm.Cond.methodLink "ShoeHouseModel" (355 : Nat) ({ cls := "ShoeHouseModel", name := "isSomebody", desc := "(II)Z" } : Jvm.MethodName)) ∈ lw_all := lw_g (lw_at lw_m7 120 rfl) rfl
theorem q1652 : (Jvm.Cond.privateMethod ({ cls := "ShoeHouseModel", name := "isSomebody", desc := "(II)Z" } : Jvm.MethodName)) ∈ lw_tbl := lw_at lw_m7 121 rfl
theorem q1653 : (Jvm.Cond.instanceMethod ({ cls := "ShoeHouseModel", name := "isSomebody", desc := "(II)Z" } : Jvm.MethodName)) ∈ lw_all := lw_g (lw_at lw_m7 122 rfl) rfl
theorem q1654 : (Jvm.Cond.code ({ cls := "ShoeHouseModel", name := "isSomebody", desc := "(II)Z" } : Jvm.MethodName) prog_11_method_65_code (4 : Nat) (Option.some Jvm.ClassFile.FieldType.boolean)) ∈ lw_all := lw_g (lw_at lw_m7 123 rfl) rfl
theorem q1655 : (Jvm.Cond.methodLink "ShoeHouseModel" (352 : Nat) ({ cls := "ShoeHouseModel", name := "roomOf", desc := "(II)I" } : Jvm.MethodName)) ∈ lw_all := lw_g (lw_at lw_m7 124 rfl) rfl
theorem q1656 : (Jvm.Cond.privateMethod ({ cls := "ShoeHouseModel", name := "roomOf", desc := "(II)I" } : Jvm.MethodName)) ∈ lw_tbl := lw_at lw_m7 125 rfl
theorem q1657 : (Jvm.Cond.instanceMethod ({ cls := "ShoeHouseModel", name := "roomOf", desc := "(II)I" } : Jvm.MethodName)) ∈ lw_all := lw_g (lw_at lw_m7 126 rfl) rfl
theorem q1658 : (Jvm.Cond.code ({ cls := "ShoeHouseModel", name := "roomOf", desc := "(II)I" } : Jvm.MethodName) prog_11_method_64_code (3 : Nat) (Option.some Jvm.ClassFile.FieldType.int)) ∈ lw_all := lw_g (lw_at lw_m7 127 rfl) rfl
theorem q1660 : (Jvm.Cond.instanceMethod ({ cls := "ShoeHouseModel", name := "where", desc := "(I)I" } : Jvm.MethodName)) ∈ lw_all := lw_g (lw_at lw_m7 129 rfl) rfl
theorem q1661 : (Jvm.Cond.selects "ShoeHouseModel" ({ cls := "ShoeHouseModel", name := "where", desc := "(I)I" } : Jvm.MethodName) ({ cls := "ShoeHouseModel", name := "where", desc := "(I)I" } : Jvm.MethodName)) ∈ lw_all := lw_g (lw_at lw_m7 130 rfl) rfl
theorem q1662 : (Jvm.Cond.code ({ cls := "ShoeHouseModel", name := "where", desc := "(I)I" } : Jvm.MethodName) prog_11_method_68_code (5 : Nat) (Option.some Jvm.ClassFile.FieldType.int)) ∈ lw_all := lw_g (lw_at lw_m7 131 rfl) rfl
theorem q1664 : (Jvm.Cond.instanceMethod ({ cls := "ShoeHouseModel", name := "misled", desc := "(III)I" } : Jvm.MethodName)) ∈ lw_all := lw_g (lw_at lw_m7 133 rfl) rfl
theorem q1665 : (Jvm.Cond.selects "ShoeHouseModel" ({ cls := "ShoeHouseModel", name := "misled", desc := "(III)I" } : Jvm.MethodName) ({ cls := "ShoeHouseModel", name := "misled", desc := "(III)I" } : Jvm.MethodName)) ∈ lw_all := lw_g (lw_at lw_m7 134 rfl) rfl
theorem q1666 : (Jvm.Cond.code ({ cls := "ShoeHouseModel", name := "misled", desc := "(III)I" } : Jvm.MethodName) prog_11_method_72_code (6 : Nat) (Option.some Jvm.ClassFile.FieldType.int)) ∈ lw_all := lw_g (lw_at lw_m7 135 rfl) rfl
theorem q1667 : (Jvm.Cond.methodLink "ShoeHouseModel" (368 : Nat) ({ cls := "ShoeHouseModel", name := "misleads", desc := "(III)Z" } : Jvm.MethodName)) ∈ lw_all := lw_g (lw_at lw_m7 136 rfl) rfl
theorem q1668 : (Jvm.Cond.privateMethod ({ cls := "ShoeHouseModel", name := "misleads", desc := "(III)Z" } : Jvm.MethodName)) ∈ lw_tbl := lw_at lw_m7 137 rfl
theorem q1669 : (Jvm.Cond.instanceMethod ({ cls := "ShoeHouseModel", name := "misleads", desc := "(III)Z" } : Jvm.MethodName)) ∈ lw_all := lw_g (lw_at lw_m7 138 rfl) rfl
theorem q1670 : (Jvm.Cond.code ({ cls := "ShoeHouseModel", name := "misleads", desc := "(III)Z" } : Jvm.MethodName) prog_11_method_71_code (6 : Nat) (Option.some Jvm.ClassFile.FieldType.boolean)) ∈ lw_all := lw_g (lw_at lw_m7 139 rfl) rfl
theorem q1671 : (Jvm.Cond.methodLink "ShoeHouseModel" (362 : Nat) ({ cls := "ShoeHouseModel", name := "another", desc := "(II)I" } : Jvm.MethodName)) ∈ lw_all := lw_g (lw_at lw_m7 140 rfl) rfl
theorem q1672 : (Jvm.Cond.privateMethod ({ cls := "ShoeHouseModel", name := "another", desc := "(II)I" } : Jvm.MethodName)) ∈ lw_tbl := lw_at lw_m7 141 rfl
theorem q1673 : (Jvm.Cond.instanceMethod ({ cls := "ShoeHouseModel", name := "another", desc := "(II)I" } : Jvm.MethodName)) ∈ lw_all := lw_g (lw_at lw_m7 142 rfl) rfl
theorem q1674 : (Jvm.Cond.code ({ cls := "ShoeHouseModel", name := "another", desc := "(II)I" } : Jvm.MethodName) prog_11_method_70_code (4 : Nat) (Option.some Jvm.ClassFile.FieldType.int)) ∈ lw_all := lw_g (lw_at lw_m7 143 rfl) rfl
theorem q1675 : (Jvm.Cond.methodLink "ShoeHouseModel" (365 : Nat) ({ cls := "ShoeHouseModel", name := "turnsDoors", desc := "(I)Z" } : Jvm.MethodName)) ∈ lw_all := lw_g (lw_at lw_m7 144 rfl) rfl
theorem q1676 : (Jvm.Cond.privateMethod ({ cls := "ShoeHouseModel", name := "turnsDoors", desc := "(I)Z" } : Jvm.MethodName)) ∈ lw_tbl := lw_at lw_m7 145 rfl
theorem q1677 : (Jvm.Cond.instanceMethod ({ cls := "ShoeHouseModel", name := "turnsDoors", desc := "(I)Z" } : Jvm.MethodName)) ∈ lw_all := lw_g (lw_at lw_m7 146 rfl) rfl
theorem q1678 : (Jvm.Cond.code ({ cls := "ShoeHouseModel", name := "turnsDoors", desc := "(I)Z" } : Jvm.MethodName) prog_11_method_69_code (4 : Nat) (Option.some Jvm.ClassFile.FieldType.boolean)) ∈ lw_all := lw_g (lw_at lw_m7 147 rfl) rfl
theorem q1680 : (Jvm.Cond.instanceMethod ({ cls := "ShoeHouseModel", name := "chance", desc := "(II)I" } : Jvm.MethodName)) ∈ lw_all := lw_g (lw_at lw_m7 149 rfl) rfl
theorem q1681 : (Jvm.Cond.selects "ShoeHouseModel" ({ cls := "ShoeHouseModel", name := "chance", desc := "(II)I" } : Jvm.MethodName) ({ cls := "ShoeHouseModel", name := "chance", desc := "(II)I" } : Jvm.MethodName)) ∈ lw_all := lw_g (lw_at lw_m7 150 rfl) rfl
theorem q1682 : (Jvm.Cond.code ({ cls := "ShoeHouseModel", name := "chance", desc := "(II)I" } : Jvm.MethodName) prog_11_method_74_code (3 : Nat) (Option.some Jvm.ClassFile.FieldType.int)) ∈ lw_all := lw_g (lw_at lw_m7 151 rfl) rfl
theorem q1683 : (Jvm.Cond.methodLink "ShoeHouseModel" (371 : Nat) ({ cls := "ShoeHouseModel", name := "chanceOf", desc := "(II)I" } : Jvm.MethodName)) ∈ lw_all := lw_g (lw_at lw_m7 152 rfl) rfl
theorem q1684 : (Jvm.Cond.privateMethod ({ cls := "ShoeHouseModel", name := "chanceOf", desc := "(II)I" } : Jvm.MethodName)) ∈ lw_tbl := lw_at lw_m7 153 rfl
theorem q1685 : (Jvm.Cond.instanceMethod ({ cls := "ShoeHouseModel", name := "chanceOf", desc := "(II)I" } : Jvm.MethodName)) ∈ lw_all := lw_g (lw_at lw_m7 154 rfl) rfl
theorem q1686 : (Jvm.Cond.code ({ cls := "ShoeHouseModel", name := "chanceOf", desc := "(II)I" } : Jvm.MethodName) prog_11_method_73_code (6 : Nat) (Option.some Jvm.ClassFile.FieldType.int)) ∈ lw_all := lw_g (lw_at lw_m7 155 rfl) rfl
theorem q1688 : (Jvm.Cond.instanceMethod ({ cls := "ShoeHouseModel", name := "round", desc := "(III)I" } : Jvm.MethodName)) ∈ lw_all := lw_g (lw_at lw_m7 157 rfl) rfl
theorem q1689 : (Jvm.Cond.selects "ShoeHouseModel" ({ cls := "ShoeHouseModel", name := "round", desc := "(III)I" } : Jvm.MethodName) ({ cls := "ShoeHouseModel", name := "round", desc := "(III)I" } : Jvm.MethodName)) ∈ lw_all := lw_g (lw_at lw_m7 158 rfl) rfl
theorem q1690 : (Jvm.Cond.code ({ cls := "ShoeHouseModel", name := "round", desc := "(III)I" } : Jvm.MethodName) prog_11_method_78_code (8 : Nat) (Option.some Jvm.ClassFile.FieldType.int)) ∈ lw_all := lw_g (lw_at lw_m7 159 rfl) rfl
theorem q1691 : (Jvm.Cond.methodLink "ShoeHouseModel" (377 : Nat) ({ cls := "ShoeHouseModel", name := "all", desc := "(I)I" } : Jvm.MethodName)) ∈ lw_all := lw_g (lw_at lw_m7 160 rfl) rfl
theorem q1692 : (Jvm.Cond.privateMethod ({ cls := "ShoeHouseModel", name := "all", desc := "(I)I" } : Jvm.MethodName)) ∈ lw_tbl := lw_at lw_m7 161 rfl
theorem q1693 : (Jvm.Cond.instanceMethod ({ cls := "ShoeHouseModel", name := "all", desc := "(I)I" } : Jvm.MethodName)) ∈ lw_all := lw_g (lw_at lw_m7 162 rfl) rfl
theorem q1694 : (Jvm.Cond.code ({ cls := "ShoeHouseModel", name := "all", desc := "(I)I" } : Jvm.MethodName) prog_11_method_76_code (5 : Nat) (Option.some Jvm.ClassFile.FieldType.int)) ∈ lw_all := lw_g (lw_at lw_m7 163 rfl) rfl
theorem q1695 : (Jvm.Cond.methodLink "ShoeHouseModel" (374 : Nat) ({ cls := "ShoeHouseModel", name := "bestOf", desc := "(II)I" } : Jvm.MethodName)) ∈ lw_all := lw_g (lw_at lw_m7 164 rfl) rfl
theorem q1696 : (Jvm.Cond.privateMethod ({ cls := "ShoeHouseModel", name := "bestOf", desc := "(II)I" } : Jvm.MethodName)) ∈ lw_tbl := lw_at lw_m7 165 rfl
theorem q1697 : (Jvm.Cond.instanceMethod ({ cls := "ShoeHouseModel", name := "bestOf", desc := "(II)I" } : Jvm.MethodName)) ∈ lw_all := lw_g (lw_at lw_m7 166 rfl) rfl
theorem q1698 : (Jvm.Cond.code ({ cls := "ShoeHouseModel", name := "bestOf", desc := "(II)I" } : Jvm.MethodName) prog_11_method_75_code (5 : Nat) (Option.some Jvm.ClassFile.FieldType.int)) ∈ lw_all := lw_g (lw_at lw_m7 167 rfl) rfl
theorem q1699 : (Jvm.Cond.methodLink "ShoeHouseModel" (380 : Nat) ({ cls := "ShoeHouseModel", name := "turnsPath", desc := "(I)Z" } : Jvm.MethodName)) ∈ lw_all := lw_g (lw_at lw_m7 168 rfl) rfl
theorem q1700 : (Jvm.Cond.privateMethod ({ cls := "ShoeHouseModel", name := "turnsPath", desc := "(I)Z" } : Jvm.MethodName)) ∈ lw_tbl := lw_at lw_m7 169 rfl
theorem q1701 : (Jvm.Cond.instanceMethod ({ cls := "ShoeHouseModel", name := "turnsPath", desc := "(I)Z" } : Jvm.MethodName)) ∈ lw_all := lw_g (lw_at lw_m7 170 rfl) rfl
theorem q1702 : (Jvm.Cond.code ({ cls := "ShoeHouseModel", name := "turnsPath", desc := "(I)Z" } : Jvm.MethodName) prog_11_method_77_code (5 : Nat) (Option.some Jvm.ClassFile.FieldType.boolean)) ∈ lw_all := lw_g (lw_at lw_m7 171 rfl) rfl
theorem q1704 : (Jvm.Cond.instanceMethod ({ cls := "ShoeHouseModel", name := "path", desc := "(II)I" } : Jvm.MethodName)) ∈ lw_all := lw_g (lw_at lw_m7 173 rfl) rfl
theorem q1705 : (Jvm.Cond.selects "ShoeHouseModel" ({ cls := "ShoeHouseModel", name := "path", desc := "(II)I" } : Jvm.MethodName) ({ cls := "ShoeHouseModel", name := "path", desc := "(II)I" } : Jvm.MethodName)) ∈ lw_all := lw_g (lw_at lw_m7 174 rfl) rfl
theorem q1706 : (Jvm.Cond.code ({ cls := "ShoeHouseModel", name := "path", desc := "(II)I" } : Jvm.MethodName) prog_11_method_79_code (3 : Nat) (Option.some Jvm.ClassFile.FieldType.int)) ∈ lw_all := lw_g (lw_at lw_m7 175 rfl) rfl
theorem q1708 : (Jvm.Cond.instanceMethod ({ cls := "ShoeHouseModel", name := "rests", desc := "(III)I" } : Jvm.MethodName)) ∈ lw_all := lw_g (lw_at lw_m7 177 rfl) rfl
theorem q1709 : (Jvm.Cond.selects "ShoeHouseModel" ({ cls := "ShoeHouseModel", name := "rests", desc := "(III)I" } : Jvm.MethodName) ({ cls := "ShoeHouseModel", name := "rests", desc := "(III)I" } : Jvm.MethodName)) ∈ lw_all := lw_g (lw_at lw_m7 178 rfl) rfl
theorem q1710 : (Jvm.Cond.code ({ cls := "ShoeHouseModel", name := "rests", desc := "(III)I" } : Jvm.MethodName) prog_11_method_82_code (9 : Nat) (Option.some Jvm.ClassFile.FieldType.int)) ∈ lw_all := lw_g (lw_at lw_m7 179 rfl) rfl
theorem q1711 : (Jvm.Cond.methodLink "ShoeHouseModel" (386 : Nat) ({ cls := "ShoeHouseModel", name := "isRest", desc := "(I)Z" } : Jvm.MethodName)) ∈ lw_all := lw_g (lw_at lw_m7 180 rfl) rfl
theorem q1712 : (Jvm.Cond.privateMethod ({ cls := "ShoeHouseModel", name := "isRest", desc := "(I)Z" } : Jvm.MethodName)) ∈ lw_tbl := lw_at lw_m7 181 rfl
theorem q1713 : (Jvm.Cond.instanceMethod ({ cls := "ShoeHouseModel", name := "isRest", desc := "(I)Z" } : Jvm.MethodName)) ∈ lw_all := lw_g (lw_at lw_m7 182 rfl) rfl
theorem q1714 : (Jvm.Cond.code ({ cls := "ShoeHouseModel", name := "isRest", desc := "(I)Z" } : Jvm.MethodName) prog_11_method_81_code (5 : Nat) (Option.some Jvm.ClassFile.FieldType.boolean)) ∈ lw_all := lw_g (lw_at lw_m7 183 rfl) rfl
theorem q1715 : (Jvm.Cond.methodLink "ShoeHouseModel" (383 : Nat) ({ cls := "ShoeHouseModel", name := "there", desc := "(II)I" } : Jvm.MethodName)) ∈ lw_all := lw_g (lw_at lw_m7 184 rfl) rfl
theorem q1716 : (Jvm.Cond.privateMethod ({ cls := "ShoeHouseModel", name := "there", desc := "(II)I" } : Jvm.MethodName)) ∈ lw_tbl := lw_at lw_m7 185 rfl
theorem q1717 : (Jvm.Cond.instanceMethod ({ cls := "ShoeHouseModel", name := "there", desc := "(II)I" } : Jvm.MethodName)) ∈ lw_all := lw_g (lw_at lw_m7 186 rfl) rfl
theorem q1718 : (Jvm.Cond.code ({ cls := "ShoeHouseModel", name := "there", desc := "(II)I" } : Jvm.MethodName) prog_11_method_80_code (5 : Nat) (Option.some Jvm.ClassFile.FieldType.int)) ∈ lw_all := lw_g (lw_at lw_m7 187 rfl) rfl
theorem q1720 : (Jvm.Cond.instanceMethod ({ cls := "ShoeHouseModel", name := "fewest", desc := "(II)I" } : Jvm.MethodName)) ∈ lw_all := lw_g (lw_at lw_m7 189 rfl) rfl
theorem q1721 : (Jvm.Cond.selects "ShoeHouseModel" ({ cls := "ShoeHouseModel", name := "fewest", desc := "(II)I" } : Jvm.MethodName) ({ cls := "ShoeHouseModel", name := "fewest", desc := "(II)I" } : Jvm.MethodName)) ∈ lw_all := lw_g (lw_at lw_m7 190 rfl) rfl
theorem q1722 : (Jvm.Cond.code ({ cls := "ShoeHouseModel", name := "fewest", desc := "(II)I" } : Jvm.MethodName) prog_11_method_87_code (7 : Nat) (Option.some Jvm.ClassFile.FieldType.int)) ∈ lw_all := lw_g (lw_at lw_m7 191 rfl) rfl
theorem q1723 : (Jvm.Cond.methodLink "ShoeHouseModel" (401 : Nat) ({ cls := "ShoeHouseModel", name := "isNeedy", desc := "(II)Z" } : Jvm.MethodName)) ∈ lw_all := lw_g (lw_at lw_m7 192 rfl) rfl
theorem q1724 : (Jvm.Cond.privateMethod ({ cls := "ShoeHouseModel", name := "isNeedy", desc := "(II)Z" } : Jvm.MethodName)) ∈ lw_tbl := lw_at lw_m7 193 rfl
theorem q1725 : (Jvm.Cond.instanceMethod ({ cls := "ShoeHouseModel", name := "isNeedy", desc := "(II)Z" } : Jvm.MethodName)) ∈ lw_all := lw_g (lw_at lw_m7 194 rfl) rfl
theorem q1726 : (Jvm.Cond.code ({ cls := "ShoeHouseModel", name := "isNeedy", desc := "(II)Z" } : Jvm.MethodName) prog_11_method_83_code (5 : Nat) (Option.some Jvm.ClassFile.FieldType.boolean)) ∈ lw_all := lw_g (lw_at lw_m7 195 rfl) rfl
theorem q1727 : (Jvm.Cond.methodLink "ShoeHouseModel" (404 : Nat) ({ cls := "ShoeHouseModel", name := "lendable", desc := "(II)I" } : Jvm.MethodName)) ∈ lw_all := lw_g (lw_at lw_m7 196 rfl) rfl
theorem q1728 : (Jvm.Cond.privateMethod ({ cls := "ShoeHouseModel", name := "lendable", desc := "(II)I" } : Jvm.MethodName)) ∈ lw_tbl := lw_at lw_m7 197 rfl
theorem q1729 : (Jvm.Cond.instanceMethod ({ cls := "ShoeHouseModel", name := "lendable", desc := "(II)I" } : Jvm.MethodName)) ∈ lw_all := lw_g (lw_at lw_m7 198 rfl) rfl
theorem q1730 : (Jvm.Cond.code ({ cls := "ShoeHouseModel", name := "lendable", desc := "(II)I" } : Jvm.MethodName) prog_11_method_86_code (6 : Nat) (Option.some Jvm.ClassFile.FieldType.int)) ∈ lw_all := lw_g (lw_at lw_m7 199 rfl) rfl
theorem q1731 : (Jvm.Cond.methodLink "ShoeHouseModel" (395 : Nat) ({ cls := "ShoeHouseModel", name := "isFree", desc := "(II)Z" } : Jvm.MethodName)) ∈ lw_all := lw_g (lw_at lw_m7 200 rfl) rfl
theorem q1732 : (Jvm.Cond.privateMethod ({ cls := "ShoeHouseModel", name := "isFree", desc := "(II)Z" } : Jvm.MethodName)) ∈ lw_tbl := lw_at lw_m7 201 rfl
theorem q1733 : (Jvm.Cond.instanceMethod ({ cls := "ShoeHouseModel", name := "isFree", desc := "(II)Z" } : Jvm.MethodName)) ∈ lw_all := lw_g (lw_at lw_m7 202 rfl) rfl
theorem q1734 : (Jvm.Cond.code ({ cls := "ShoeHouseModel", name := "isFree", desc := "(II)Z" } : Jvm.MethodName) prog_11_method_84_code (4 : Nat) (Option.some Jvm.ClassFile.FieldType.boolean)) ∈ lw_all := lw_g (lw_at lw_m7 203 rfl) rfl
theorem q1735 : (Jvm.Cond.methodLink "ShoeHouseModel" (398 : Nat) ({ cls := "ShoeHouseModel", name := "given", desc := "(II)I" } : Jvm.MethodName)) ∈ lw_all := lw_g (lw_at lw_m7 204 rfl) rfl
theorem q1736 : (Jvm.Cond.privateMethod ({ cls := "ShoeHouseModel", name := "given", desc := "(II)I" } : Jvm.MethodName)) ∈ lw_tbl := lw_at lw_m7 205 rfl
theorem q1737 : (Jvm.Cond.instanceMethod ({ cls := "ShoeHouseModel", name := "given", desc := "(II)I" } : Jvm.MethodName)) ∈ lw_all := lw_g (lw_at lw_m7 206 rfl) rfl
theorem q1738 : (Jvm.Cond.code ({ cls := "ShoeHouseModel", name := "given", desc := "(II)I" } : Jvm.MethodName) prog_11_method_85_code (5 : Nat) (Option.some Jvm.ClassFile.FieldType.int)) ∈ lw_all := lw_g (lw_at lw_m7 207 rfl) rfl
theorem q1740 : (Jvm.Cond.instanceMethod ({ cls := "ShoeHouseModel", name := "lender", desc := "(I)I" } : Jvm.MethodName)) ∈ lw_all := lw_g (lw_at lw_m7 209 rfl) rfl
theorem q1741 : (Jvm.Cond.selects "ShoeHouseModel" ({ cls := "ShoeHouseModel", name := "lender", desc := "(I)I" } : Jvm.MethodName) ({ cls := "ShoeHouseModel", name := "lender", desc := "(I)I" } : Jvm.MethodName)) ∈ lw_all := lw_g (lw_at lw_m7 210 rfl) rfl
theorem q1742 : (Jvm.Cond.code ({ cls := "ShoeHouseModel", name := "lender", desc := "(I)I" } : Jvm.MethodName) prog_11_method_88_code (2 : Nat) (Option.some Jvm.ClassFile.FieldType.int)) ∈ lw_all := lw_g (lw_at lw_m7 211 rfl) rfl
theorem q1744 : (Jvm.Cond.instanceMethod ({ cls := "ShoeHouseModel", name := "kinds", desc := "(II)I" } : Jvm.MethodName)) ∈ lw_all := lw_g (lw_at lw_m7 213 rfl) rfl
theorem q1745 : (Jvm.Cond.selects "ShoeHouseModel" ({ cls := "ShoeHouseModel", name := "kinds", desc := "(II)I" } : Jvm.MethodName) ({ cls := "ShoeHouseModel", name := "kinds", desc := "(II)I" } : Jvm.MethodName)) ∈ lw_all := lw_g (lw_at lw_m7 214 rfl) rfl
theorem q1746 : (Jvm.Cond.code ({ cls := "ShoeHouseModel", name := "kinds", desc := "(II)I" } : Jvm.MethodName) prog_11_method_92_code (4 : Nat) (Option.some Jvm.ClassFile.FieldType.int)) ∈ lw_all := lw_g (lw_at lw_m7 215 rfl) rfl
theorem q1747 : (Jvm.Cond.methodLink "ShoeHouseModel" (413 : Nat) ({ cls := "ShoeHouseModel", name := "isCode", desc := "(II)Z" } : Jvm.MethodName)) ∈ lw_all := lw_g (lw_at lw_m7 216 rfl) rfl
theorem q1748 : (Jvm.Cond.privateMethod ({ cls := "ShoeHouseModel", name := "isCode", desc := "(II)Z" } : Jvm.MethodName)) ∈ lw_tbl := lw_at lw_m7 217 rfl
theorem q1749 : (Jvm.Cond.instanceMethod ({ cls := "ShoeHouseModel", name := "isCode", desc := "(II)Z" } : Jvm.MethodName)) ∈ lw_all := lw_g (lw_at lw_m7 218 rfl) rfl
theorem q1750 : (Jvm.Cond.code ({ cls := "ShoeHouseModel", name := "isCode", desc := "(II)Z" } : Jvm.MethodName) prog_11_method_91_code (3 : Nat) (Option.some Jvm.ClassFile.FieldType.boolean)) ∈ lw_all := lw_g (lw_at lw_m7 219 rfl) rfl
theorem q1751 : (Jvm.Cond.methodLink "ShoeHouseModel" (416 : Nat) ({ cls := "ShoeHouseModel", name := "spells", desc := "(I)V" } : Jvm.MethodName)) ∈ lw_all := lw_g (lw_at lw_m7 220 rfl) rfl
theorem q1752 : (Jvm.Cond.privateMethod ({ cls := "ShoeHouseModel", name := "spells", desc := "(I)V" } : Jvm.MethodName)) ∈ lw_tbl := lw_at lw_m7 221 rfl
theorem q1753 : (Jvm.Cond.instanceMethod ({ cls := "ShoeHouseModel", name := "spells", desc := "(I)V" } : Jvm.MethodName)) ∈ lw_all := lw_g (lw_at lw_m7 222 rfl) rfl
theorem q1754 : (Jvm.Cond.code ({ cls := "ShoeHouseModel", name := "spells", desc := "(I)V" } : Jvm.MethodName) prog_11_method_90_code (5 : Nat) (Option.none : Option Jvm.ClassFile.FieldType)) ∈ lw_all := lw_g (lw_at lw_m7 223 rfl) rfl
theorem q1755 : (Jvm.Cond.methodLink "ShoeHouseModel" (410 : Nat) ({ cls := "ShoeHouseModel", name := "apart", desc := "(II)I" } : Jvm.MethodName)) ∈ lw_all := lw_g (lw_at lw_m7 224 rfl) rfl
theorem q1756 : (Jvm.Cond.static ({ cls := "ShoeHouseModel", name := "apart", desc := "(II)I" } : Jvm.MethodName)) ∈ lw_all := lw_g (lw_at lw_m7 225 rfl) rfl
theorem q1757 : (Jvm.Cond.code ({ cls := "ShoeHouseModel", name := "apart", desc := "(II)I" } : Jvm.MethodName) prog_11_method_89_code (4 : Nat) (Option.some Jvm.ClassFile.FieldType.int)) ∈ lw_all := lw_g (lw_at lw_m7 226 rfl) rfl
theorem q1759 : (Jvm.Cond.instanceMethod ({ cls := "ShoeHouseModel", name := "word", desc := "(II)I" } : Jvm.MethodName)) ∈ lw_all := lw_g (lw_at lw_m7 228 rfl) rfl
theorem q1760 : (Jvm.Cond.selects "ShoeHouseModel" ({ cls := "ShoeHouseModel", name := "word", desc := "(II)I" } : Jvm.MethodName) ({ cls := "ShoeHouseModel", name := "word", desc := "(II)I" } : Jvm.MethodName)) ∈ lw_all := lw_g (lw_at lw_m7 229 rfl) rfl
theorem q1761 : (Jvm.Cond.code ({ cls := "ShoeHouseModel", name := "word", desc := "(II)I" } : Jvm.MethodName) prog_11_method_93_code (3 : Nat) (Option.some Jvm.ClassFile.FieldType.int)) ∈ lw_all := lw_g (lw_at lw_m7 230 rfl) rfl
theorem q1763 : (Jvm.Cond.instanceMethod ({ cls := "ShoeHouseModel", name := "mend", desc := "(III)I" } : Jvm.MethodName)) ∈ lw_all := lw_g (lw_at lw_m7 232 rfl) rfl
theorem q1764 : (Jvm.Cond.selects "ShoeHouseModel" ({ cls := "ShoeHouseModel", name := "mend", desc := "(III)I" } : Jvm.MethodName) ({ cls := "ShoeHouseModel", name := "mend", desc := "(III)I" } : Jvm.MethodName)) ∈ lw_all := lw_g (lw_at lw_m7 233 rfl) rfl
theorem q1765 : (Jvm.Cond.code ({ cls := "ShoeHouseModel", name := "mend", desc := "(III)I" } : Jvm.MethodName) prog_11_method_94_code (6 : Nat) (Option.some Jvm.ClassFile.FieldType.int)) ∈ lw_all := lw_g (lw_at lw_m7 234 rfl) rfl
theorem q1767 : (Jvm.Cond.instanceMethod ({ cls := "ShoeHouseModel", name := "fire", desc := "(IIIII)J" } : Jvm.MethodName)) ∈ lw_all := lw_g (lw_at lw_m7 236 rfl) rfl
theorem q1768 : (Jvm.Cond.selects "ShoeHouseModel" ({ cls := "ShoeHouseModel", name := "fire", desc := "(IIIII)J" } : Jvm.MethodName) ({ cls := "ShoeHouseModel", name := "fire", desc := "(IIIII)J" } : Jvm.MethodName)) ∈ lw_all := lw_g (lw_at lw_m7 237 rfl) rfl
theorem q1769 : (Jvm.Cond.code ({ cls := "ShoeHouseModel", name := "fire", desc := "(IIIII)J" } : Jvm.MethodName) prog_11_method_95_code (13 : Nat) (Option.some Jvm.ClassFile.FieldType.long)) ∈ lw_all := lw_g (lw_at lw_m7 238 rfl) rfl
theorem q1770 : (Jvm.Cond.methodLink "ShoeHouseModel" (419 : Nat) ({ cls := "ShoeHouseModel", name := "off", desc := "(II)I" } : Jvm.MethodName)) ∈ lw_all := lw_g (lw_at lw_m7 239 rfl) rfl
theorem q1771 : (Jvm.Cond.static ({ cls := "ShoeHouseModel", name := "off", desc := "(II)I" } : Jvm.MethodName)) ∈ lw_all := lw_g (lw_at lw_m8 0 rfl) rfl
theorem q1772 : (Jvm.Cond.code ({ cls := "ShoeHouseModel", name := "off", desc := "(II)I" } : Jvm.MethodName) prog_11_method_5_code (2 : Nat) (Option.some Jvm.ClassFile.FieldType.int)) ∈ lw_all := lw_g (lw_at lw_m8 1 rfl) rfl
theorem q1774 : (Jvm.Cond.instanceMethod ({ cls := "ShoeHouseModel", name := "image", desc := "()V" } : Jvm.MethodName)) ∈ lw_all := lw_g (lw_at lw_m8 3 rfl) rfl
theorem q1775 : (Jvm.Cond.selects "ShoeHouseModel" ({ cls := "ShoeHouseModel", name := "image", desc := "()V" } : Jvm.MethodName) ({ cls := "ShoeHouseModel", name := "image", desc := "()V" } : Jvm.MethodName)) ∈ lw_all := lw_g (lw_at lw_m8 4 rfl) rfl
theorem q1776 : (Jvm.Cond.code ({ cls := "ShoeHouseModel", name := "image", desc := "()V" } : Jvm.MethodName) prog_11_method_96_code (1 : Nat) (Option.none : Option Jvm.ClassFile.FieldType)) ∈ lw_all := lw_g (lw_at lw_m8 5 rfl) rfl
theorem q1778 : (Jvm.Cond.instanceMethod ({ cls := "ShoeHouseModel", name := "restore", desc := "()Z" } : Jvm.MethodName)) ∈ lw_all := lw_g (lw_at lw_m8 7 rfl) rfl
theorem q1779 : (Jvm.Cond.selects "ShoeHouseModel" ({ cls := "ShoeHouseModel", name := "restore", desc := "()Z" } : Jvm.MethodName) ({ cls := "ShoeHouseModel", name := "restore", desc := "()Z" } : Jvm.MethodName)) ∈ lw_all := lw_g (lw_at lw_m8 8 rfl) rfl
theorem q1780 : (Jvm.Cond.code ({ cls := "ShoeHouseModel", name := "restore", desc := "()Z" } : Jvm.MethodName) prog_11_method_97_code (1 : Nat) (Option.some Jvm.ClassFile.FieldType.boolean)) ∈ lw_all := lw_g (lw_at lw_m8 9 rfl) rfl
theorem q1787 : (Jvm.Cond.castable "ShoeHouseModel" "java/lang/Object") ∈ lw_tbl := lw_at lw_m8 16 rfl
theorem in_X3 : ∀ w ∈ wsX30, w ∈ lw_all := lw_in wsX30 [1266, 1268, 1270, 1272, 1274, 1276, 1278, 1280, 1282, 1284, 1286, 1288, 1290, 1292, 1294, 1296, 1298, 1300, 1302, 1304, 1306, 1308, 1310, 1312, 1314, 1316, 1318, 1320, 1322, 1324, 1326, 1328, 1330, 1332, 1334, 1336, 1338, 1340, 1342, 1344, 1346, 1348, 1350, 1352, 1354, 1356, 1358, 1360, 1362, 1364, 1366, 1368, 1370, 1372, 1374, 1376, 1378, 1380, 1382, 1384, 1386, 1388, 1390, 1392, 1394, 1396, 1398, 1400, 1402] (by decide +kernel) (by decide +kernel)
/-! ShoeHouse$Reader -/
def RX4 : String := "ShoeHouse$Reader"
def TX4 : u_T := fun k => match k with
  | 0 => ("ShoeHouse$Reader", "size", "I", true)
  | 1 => ("ShoeHouse$Reader", "told", "LShoeHouse$House;", true)
  | 2 => ("ShoeHouse$Reader", "at", "I", false)
  | 3 => ("ShoeHouse$Reader", "token", "I", false)
  | 4 => ("ShoeHouse$Reader", "begins", "I", false)
  | 5 => ("ShoeHouse$Reader", "ends", "I", false)
  | 6 => ("ShoeHouse$Reader", "number", "I", false)
  | 7 => ("ShoeHouse$Reader", "laws", "I", false)
  | _ => ("ShoeHouse$Reader", "this$0", "LShoeHouse;", true)
def tyX4 : Nat → FieldType := fun k => match k with
  | 0 => .int
  | 1 => .object "ShoeHouse$House"
  | 2 => .int
  | 3 => .int
  | 4 => .int
  | 5 => .int
  | 6 => .int
  | 7 => .int
  | _ => .object "ShoeHouse"
abbrev wsX40 : List Cond := u_ws RX4 TX4 9
theorem nmX4 : ∀ a, a < 9 → ∀ b, b < 9 → a ≠ b → (TX4 a).2.1 ≠ (TX4 b).2.1 := by decide +kernel
theorem tyX4_ok : ∀ k, k < 9 → parseFieldDescriptor (TX4 k).2.2.1 = some (tyX4 k) := by decide +kernel
abbrev cX4_init : ByteArray := prog_7_method_1_code
def yX4_init : MethodName := ⟨RX4, "<init>", "(LShoeHouse;I)V"⟩
abbrev cX4_read : ByteArray := prog_7_method_17_code
def yX4_read : MethodName := ⟨RX4, "read", "()LShoeHouse$House;"⟩
abbrev cX4_next : ByteArray := prog_7_method_5_code
def yX4_next : MethodName := ⟨RX4, "next", "()V"⟩
abbrev cX4_here : ByteArray := prog_7_method_2_code
def yX4_here : MethodName := ⟨RX4, "here", "()I"⟩
abbrev cX4_isLetter : ByteArray := prog_7_method_3_code
def yX4_isLetter : MethodName := ⟨RX4, "isLetter", "()Z"⟩
abbrev cX4_isDigit : ByteArray := prog_7_method_4_code
def yX4_isDigit : MethodName := ⟨RX4, "isDigit", "()Z"⟩
abbrev cX4_line : ByteArray := prog_7_method_16_code
def yX4_line : MethodName := ⟨RX4, "line", "()V"⟩
abbrev cX4_is : ByteArray := prog_7_method_6_code
def yX4_is : MethodName := ⟨RX4, "is", "(Ljava/lang/String;)Z"⟩
abbrev cX4_want : ByteArray := prog_7_method_8_code
def yX4_want : MethodName := ⟨RX4, "want", "(ZI)V"⟩
abbrev cX4_number : ByteArray := prog_7_method_9_code
def yX4_number : MethodName := ⟨RX4, "number", "(II)I"⟩
abbrev cX4_lodger : ByteArray := prog_7_method_13_code
def yX4_lodger : MethodName := ⟨RX4, "lodger", "()V"⟩
abbrev cX4_oneNow : ByteArray := prog_7_method_10_code
def yX4_oneNow : MethodName := ⟨RX4, "oneNow", "(I)I"⟩
abbrev cX4_one : ByteArray := prog_7_method_11_code
def yX4_one : MethodName := ⟨RX4, "one", "(I)I"⟩
abbrev cX4_may : ByteArray := prog_7_method_14_code
def yX4_may : MethodName := ⟨RX4, "may", "()V"⟩
abbrev cX4_doing : ByteArray := prog_7_method_12_code
def yX4_doing : MethodName := ⟨RX4, "doing", "()I"⟩
abbrev cX4_passes : ByteArray := prog_7_method_7_code
def yX4_passes : MethodName := ⟨RX4, "passes", "(Ljava/lang/String;)Z"⟩
abbrev cX4_law : ByteArray := prog_7_method_15_code
def yX4_law : MethodName := ⟨RX4, "law", "()V"⟩
theorem q102 : (Jvm.Cond.initialized "ShoeHouse$Reader") ∈ lw_all := lw_g (lw_at lw_m1 11 rfl) rfl
theorem q162 : (Jvm.Cond.fieldLinkNest "ShoeHouse$Reader" (103 : Nat) "ShoeHouse$House" "lodgers" "Ljava/util/List;" "ShoeHouse") ∈ lw_tbl := lw_at lw_m1 71 rfl
theorem q165 : (Jvm.Cond.fieldLinkNest "ShoeHouse$Reader" (164 : Nat) "ShoeHouse$House" "goods" "[I" "ShoeHouse") ∈ lw_tbl := lw_at lw_m1 74 rfl
theorem q168 : (Jvm.Cond.fieldLinkNest "ShoeHouse$Reader" (176 : Nat) "ShoeHouse$House" "begins" "[I" "ShoeHouse") ∈ lw_tbl := lw_at lw_m1 77 rfl
theorem q171 : (Jvm.Cond.fieldLinkNest "ShoeHouse$Reader" (160 : Nat) "ShoeHouse$House" "law" "[I" "ShoeHouse") ∈ lw_tbl := lw_at lw_m1 80 rfl
theorem q175 : (Jvm.Cond.fieldLinkNest "ShoeHouse$Reader" (111 : Nat) "ShoeHouse$House" "rooms" "I" "ShoeHouse") ∈ lw_tbl := lw_at lw_m1 84 rfl
theorem q177 : (Jvm.Cond.fieldLinkNest "ShoeHouse$Reader" (173 : Nat) "ShoeHouse$House" "finders" "I" "ShoeHouse") ∈ lw_tbl := lw_at lw_m1 86 rfl
theorem q179 : (Jvm.Cond.fieldLinkNest "ShoeHouse$Reader" (130 : Nat) "ShoeHouse$House" "mays" "I" "ShoeHouse") ∈ lw_tbl := lw_at lw_m1 88 rfl
theorem q202 : (Jvm.Cond.fieldLinkNest "ShoeHouse$Reader" (29 : Nat) "ShoeHouse" "tape" "[B" "ShoeHouse") ∈ lw_tbl := lw_at lw_m1 111 rfl
theorem q450 : (Jvm.Cond.selects "ShoeHouse$Reader" ({ cls := "java/lang/Object", name := "getClass", desc := "()Ljava/lang/Class;" } : Jvm.MethodName) ({ cls := "java/lang/Object", name := "getClass", desc := "()Ljava/lang/Class;" } : Jvm.MethodName)) ∈ lw_all := lw_g (lw_at lw_m2 119 rfl) rfl
theorem q563 : (Jvm.Cond.instantiable "ShoeHouse$Reader" (9 : Nat)) ∈ lw_all := lw_g (lw_at lw_m2 232 rfl) rfl
theorem q565 : (Jvm.Cond.instanceMethod ({ cls := "ShoeHouse$Reader", name := "<init>", desc := "(LShoeHouse;I)V" } : Jvm.MethodName)) ∈ lw_all := lw_g (lw_at lw_m2 234 rfl) rfl
theorem q566 : (Jvm.Cond.code ({ cls := "ShoeHouse$Reader", name := "<init>", desc := "(LShoeHouse;I)V" } : Jvm.MethodName) prog_7_method_1_code (3 : Nat) (Option.none : Option Jvm.ClassFile.FieldType)) ∈ lw_all := lw_g (lw_at lw_m2 235 rfl) rfl
theorem q567 : (Jvm.Cond.methodLink "ShoeHouse$Reader" (9 : Nat) ({ cls := "java/lang/Object", name := "<init>", desc := "()V" } : Jvm.MethodName)) ∈ lw_all := lw_g (lw_at lw_m2 236 rfl) rfl
theorem q568 : (Jvm.Cond.classLink "ShoeHouse$Reader" (15 : Nat) "ShoeHouse$House") ∈ lw_all := lw_g (lw_at lw_m2 237 rfl) rfl
theorem q569 : (Jvm.Cond.methodLinkNest "ShoeHouse$Reader" (17 : Nat) ({ cls := "ShoeHouse$House", name := "<init>", desc := "()V" } : Jvm.MethodName) "ShoeHouse") ∈ lw_tbl := lw_at lw_m2 238 rfl
theorem q570 : (Jvm.Cond.fieldLink "ShoeHouse$Reader" (22 : Nat) "ShoeHouse$Reader" "size" "I") ∈ lw_all := lw_g (lw_at lw_m2 239 rfl) rfl
theorem q571 : (Jvm.Cond.fieldLink "ShoeHouse$Reader" (18 : Nat) "ShoeHouse$Reader" "told" "LShoeHouse$House;") ∈ lw_all := lw_g (lw_at lw_m3 0 rfl) rfl
theorem q572 : (Jvm.Cond.fieldLink "ShoeHouse$Reader" (26 : Nat) "ShoeHouse$Reader" "at" "I") ∈ lw_all := lw_g (lw_at lw_m3 1 rfl) rfl
theorem q573 : (Jvm.Cond.fieldLink "ShoeHouse$Reader" (44 : Nat) "ShoeHouse$Reader" "token" "I") ∈ lw_all := lw_g (lw_at lw_m3 2 rfl) rfl
theorem q574 : (Jvm.Cond.fieldLink "ShoeHouse$Reader" (41 : Nat) "ShoeHouse$Reader" "begins" "I") ∈ lw_all := lw_g (lw_at lw_m3 3 rfl) rfl
theorem q576 : (Jvm.Cond.fieldLink "ShoeHouse$Reader" (63 : Nat) "ShoeHouse$Reader" "ends" "I") ∈ lw_all := lw_g (lw_at lw_m3 5 rfl) rfl
theorem q577 : (Jvm.Cond.fieldLink "ShoeHouse$Reader" (54 : Nat) "ShoeHouse$Reader" "number" "I") ∈ lw_all := lw_g (lw_at lw_m3 6 rfl) rfl
theorem q578 : (Jvm.Cond.fieldLink "ShoeHouse$Reader" (153 : Nat) "ShoeHouse$Reader" "laws" "I") ∈ lw_all := lw_g (lw_at lw_m3 7 rfl) rfl
theorem q579 : (Jvm.Cond.fieldLink "ShoeHouse$Reader" (3 : Nat) "ShoeHouse$Reader" "this$0" "LShoeHouse;") ∈ lw_all := lw_g (lw_at lw_m3 8 rfl) rfl
theorem q580 : (Jvm.Cond.laysFinal "ShoeHouse$Reader" "ShoeHouse$Reader" "size" "I") ∈ lw_all := lw_g (lw_at lw_m3 9 rfl) rfl
theorem q581 : (Jvm.Cond.soleField "ShoeHouse$Reader" "size") ∈ lw_all := lw_g (lw_at lw_m3 10 rfl) rfl
theorem q582 : (Jvm.Cond.laysFinal "ShoeHouse$Reader" "ShoeHouse$Reader" "told" "LShoeHouse$House;") ∈ lw_all := lw_g (lw_at lw_m3 11 rfl) rfl
theorem q583 : (Jvm.Cond.soleField "ShoeHouse$Reader" "told") ∈ lw_all := lw_g (lw_at lw_m3 12 rfl) rfl
theorem q584 : (Jvm.Cond.lays "ShoeHouse$Reader" "ShoeHouse$Reader" "at" "I") ∈ lw_all := lw_g (lw_at lw_m3 13 rfl) rfl
theorem q585 : (Jvm.Cond.soleField "ShoeHouse$Reader" "at") ∈ lw_all := lw_g (lw_at lw_m3 14 rfl) rfl
theorem q586 : (Jvm.Cond.lays "ShoeHouse$Reader" "ShoeHouse$Reader" "token" "I") ∈ lw_all := lw_g (lw_at lw_m3 15 rfl) rfl
theorem q587 : (Jvm.Cond.soleField "ShoeHouse$Reader" "token") ∈ lw_all := lw_g (lw_at lw_m3 16 rfl) rfl
theorem q588 : (Jvm.Cond.lays "ShoeHouse$Reader" "ShoeHouse$Reader" "begins" "I") ∈ lw_all := lw_g (lw_at lw_m3 17 rfl) rfl
theorem q589 : (Jvm.Cond.soleField "ShoeHouse$Reader" "begins") ∈ lw_all := lw_g (lw_at lw_m3 18 rfl) rfl
theorem q590 : (Jvm.Cond.lays "ShoeHouse$Reader" "ShoeHouse$Reader" "ends" "I") ∈ lw_all := lw_g (lw_at lw_m3 19 rfl) rfl
theorem q591 : (Jvm.Cond.soleField "ShoeHouse$Reader" "ends") ∈ lw_all := lw_g (lw_at lw_m3 20 rfl) rfl
theorem q592 : (Jvm.Cond.lays "ShoeHouse$Reader" "ShoeHouse$Reader" "number" "I") ∈ lw_all := lw_g (lw_at lw_m3 21 rfl) rfl
theorem q593 : (Jvm.Cond.soleField "ShoeHouse$Reader" "number") ∈ lw_all := lw_g (lw_at lw_m3 22 rfl) rfl
theorem q594 : (Jvm.Cond.lays "ShoeHouse$Reader" "ShoeHouse$Reader" "laws" "I") ∈ lw_all := lw_g (lw_at lw_m3 23 rfl) rfl
theorem q595 : (Jvm.Cond.soleField "ShoeHouse$Reader" "laws") ∈ lw_all := lw_g (lw_at lw_m3 24 rfl) rfl
theorem q596 : (Jvm.Cond.laysFinal "ShoeHouse$Reader" "ShoeHouse$Reader" "this$0" "LShoeHouse;") ∈ lw_all := lw_g (lw_at lw_m3 25 rfl) rfl
theorem q597 : (Jvm.Cond.soleField "ShoeHouse$Reader" "this$0") ∈ lw_all := lw_g (lw_at lw_m3 26 rfl) rfl
theorem q598 : (Jvm.Cond.superclass "ShoeHouse$Reader" "java/lang/Object") ∈ lw_all := lw_g (lw_at lw_m3 27 rfl) rfl
theorem q600 : (Jvm.Cond.instanceMethod ({ cls := "ShoeHouse$Reader", name := "read", desc := "()LShoeHouse$House;" } : Jvm.MethodName)) ∈ lw_all := lw_g (lw_at lw_m3 29 rfl) rfl
theorem q601 : (Jvm.Cond.selects "ShoeHouse$Reader" ({ cls := "ShoeHouse$Reader", name := "read", desc := "()LShoeHouse$House;" } : Jvm.MethodName) ({ cls := "ShoeHouse$Reader", name := "read", desc := "()LShoeHouse$House;" } : Jvm.MethodName)) ∈ lw_all := lw_g (lw_at lw_m3 30 rfl) rfl
theorem q602 : (Jvm.Cond.code ({ cls := "ShoeHouse$Reader", name := "read", desc := "()LShoeHouse$House;" } : Jvm.MethodName) prog_7_method_17_code (1 : Nat) (Option.some (Jvm.ClassFile.FieldType.object "ShoeHouse$House"))) ∈ lw_all := lw_g (lw_at lw_m3 31 rfl) rfl
theorem q603 : (Jvm.Cond.methodLink "ShoeHouse$Reader" (79 : Nat) ({ cls := "ShoeHouse$Reader", name := "next", desc := "()V" } : Jvm.MethodName)) ∈ lw_all := lw_g (lw_at lw_m3 32 rfl) rfl
theorem q604 : (Jvm.Cond.privateMethod ({ cls := "ShoeHouse$Reader", name := "next", desc := "()V" } : Jvm.MethodName)) ∈ lw_tbl := lw_at lw_m3 33 rfl
theorem q605 : (Jvm.Cond.instanceMethod ({ cls := "ShoeHouse$Reader", name := "next", desc := "()V" } : Jvm.MethodName)) ∈ lw_all := lw_g (lw_at lw_m3 34 rfl) rfl
theorem q606 : (Jvm.Cond.code ({ cls := "ShoeHouse$Reader", name := "next", desc := "()V" } : Jvm.MethodName) prog_7_method_5_code (1 : Nat) (Option.none : Option Jvm.ClassFile.FieldType)) ∈ lw_all := lw_g (lw_at lw_m3 35 rfl) rfl
theorem q607 : (Jvm.Cond.methodLink "ShoeHouse$Reader" (33 : Nat) ({ cls := "ShoeHouse$Reader", name := "here", desc := "()I" } : Jvm.MethodName)) ∈ lw_all := lw_g (lw_at lw_m3 36 rfl) rfl
theorem q608 : (Jvm.Cond.privateMethod ({ cls := "ShoeHouse$Reader", name := "here", desc := "()I" } : Jvm.MethodName)) ∈ lw_tbl := lw_at lw_m3 37 rfl
theorem q609 : (Jvm.Cond.instanceMethod ({ cls := "ShoeHouse$Reader", name := "here", desc := "()I" } : Jvm.MethodName)) ∈ lw_all := lw_g (lw_at lw_m3 38 rfl) rfl
theorem q610 : (Jvm.Cond.code ({ cls := "ShoeHouse$Reader", name := "here", desc := "()I" } : Jvm.MethodName) prog_7_method_2_code (1 : Nat) (Option.some Jvm.ClassFile.FieldType.int)) ∈ lw_all := lw_g (lw_at lw_m3 39 rfl) rfl
theorem q611 : (Jvm.Cond.methodLink "ShoeHouse$Reader" (47 : Nat) ({ cls := "ShoeHouse$Reader", name := "isLetter", desc := "()Z" } : Jvm.MethodName)) ∈ lw_all := lw_g (lw_at lw_m3 40 rfl) rfl
theorem q612 : (Jvm.Cond.privateMethod ({ cls := "ShoeHouse$Reader", name := "isLetter", desc := "()Z" } : Jvm.MethodName)) ∈ lw_tbl := lw_at lw_m3 41 rfl
theorem q613 : (Jvm.Cond.instanceMethod ({ cls := "ShoeHouse$Reader", name := "isLetter", desc := "()Z" } : Jvm.MethodName)) ∈ lw_all := lw_g (lw_at lw_m3 42 rfl) rfl
theorem q614 : (Jvm.Cond.code ({ cls := "ShoeHouse$Reader", name := "isLetter", desc := "()Z" } : Jvm.MethodName) prog_7_method_3_code (1 : Nat) (Option.some Jvm.ClassFile.FieldType.boolean)) ∈ lw_all := lw_g (lw_at lw_m3 43 rfl) rfl
theorem q615 : (Jvm.Cond.methodLinkNest "ShoeHouse$Reader" (37 : Nat) ({ cls := "ShoeHouse", name := "in", desc := "(III)Z" } : Jvm.MethodName) "ShoeHouse") ∈ lw_tbl := lw_at lw_m3 44 rfl
theorem q618 : (Jvm.Cond.methodLink "ShoeHouse$Reader" (51 : Nat) ({ cls := "ShoeHouse$Reader", name := "isDigit", desc := "()Z" } : Jvm.MethodName)) ∈ lw_all := lw_g (lw_at lw_m3 47 rfl) rfl
theorem q619 : (Jvm.Cond.privateMethod ({ cls := "ShoeHouse$Reader", name := "isDigit", desc := "()Z" } : Jvm.MethodName)) ∈ lw_tbl := lw_at lw_m3 48 rfl
theorem q620 : (Jvm.Cond.instanceMethod ({ cls := "ShoeHouse$Reader", name := "isDigit", desc := "()Z" } : Jvm.MethodName)) ∈ lw_all := lw_g (lw_at lw_m3 49 rfl) rfl
theorem q621 : (Jvm.Cond.code ({ cls := "ShoeHouse$Reader", name := "isDigit", desc := "()Z" } : Jvm.MethodName) prog_7_method_4_code (1 : Nat) (Option.some Jvm.ClassFile.FieldType.boolean)) ∈ lw_all := lw_g (lw_at lw_m3 50 rfl) rfl
theorem q622 : (Jvm.Cond.methodLink "ShoeHouse$Reader" (57 : Nat) ({ cls := "java/lang/Math", name := "min", desc := "(II)I" } : Jvm.MethodName)) ∈ lw_all := lw_g (lw_at lw_m3 51 rfl) rfl
theorem q623 : (Jvm.Cond.methodLink "ShoeHouse$Reader" (187 : Nat) ({ cls := "ShoeHouse$Reader", name := "line", desc := "()V" } : Jvm.MethodName)) ∈ lw_all := lw_g (lw_at lw_m3 52 rfl) rfl
theorem q624 : (Jvm.Cond.privateMethod ({ cls := "ShoeHouse$Reader", name := "line", desc := "()V" } : Jvm.MethodName)) ∈ lw_tbl := lw_at lw_m3 53 rfl
theorem q625 : (Jvm.Cond.instanceMethod ({ cls := "ShoeHouse$Reader", name := "line", desc := "()V" } : Jvm.MethodName)) ∈ lw_all := lw_g (lw_at lw_m3 54 rfl) rfl
theorem q626 : (Jvm.Cond.code ({ cls := "ShoeHouse$Reader", name := "line", desc := "()V" } : Jvm.MethodName) prog_7_method_16_code (1 : Nat) (Option.none : Option Jvm.ClassFile.FieldType)) ∈ lw_all := lw_g (lw_at lw_m3 55 rfl) rfl
theorem q627 : (Jvm.Cond.stringRef "ShoeHouse$Reader" (163 : Nat) "room") ∈ lw_tbl := lw_at lw_m3 56 rfl
theorem q628 : (Jvm.Cond.methodLink "ShoeHouse$Reader" (75 : Nat) ({ cls := "ShoeHouse$Reader", name := "is", desc := "(Ljava/lang/String;)Z" } : Jvm.MethodName)) ∈ lw_all := lw_g (lw_at lw_m3 57 rfl) rfl
theorem q629 : (Jvm.Cond.privateMethod ({ cls := "ShoeHouse$Reader", name := "is", desc := "(Ljava/lang/String;)Z" } : Jvm.MethodName)) ∈ lw_tbl := lw_at lw_m3 58 rfl
theorem q630 : (Jvm.Cond.instanceMethod ({ cls := "ShoeHouse$Reader", name := "is", desc := "(Ljava/lang/String;)Z" } : Jvm.MethodName)) ∈ lw_all := lw_g (lw_at lw_m3 59 rfl) rfl
theorem q631 : (Jvm.Cond.code ({ cls := "ShoeHouse$Reader", name := "is", desc := "(Ljava/lang/String;)Z" } : Jvm.MethodName) prog_7_method_6_code (3 : Nat) (Option.some Jvm.ClassFile.FieldType.boolean)) ∈ lw_all := lw_g (lw_at lw_m3 60 rfl) rfl
theorem q632 : (Jvm.Cond.methodLink "ShoeHouse$Reader" (66 : Nat) ({ cls := "java/lang/String", name := "length", desc := "()I" } : Jvm.MethodName)) ∈ lw_all := lw_g (lw_at lw_m3 61 rfl) rfl
theorem q642 : (Jvm.Cond.methodLink "ShoeHouse$Reader" (71 : Nat) ({ cls := "java/lang/String", name := "charAt", desc := "(I)C" } : Jvm.MethodName)) ∈ lw_all := lw_g (lw_at lw_m3 71 rfl) rfl
theorem q678 : (Jvm.Cond.methodLink "ShoeHouse$Reader" (87 : Nat) ({ cls := "ShoeHouse$Reader", name := "want", desc := "(ZI)V" } : Jvm.MethodName)) ∈ lw_all := lw_g (lw_at lw_m3 107 rfl) rfl
theorem q679 : (Jvm.Cond.privateMethod ({ cls := "ShoeHouse$Reader", name := "want", desc := "(ZI)V" } : Jvm.MethodName)) ∈ lw_tbl := lw_at lw_m3 108 rfl
theorem q680 : (Jvm.Cond.instanceMethod ({ cls := "ShoeHouse$Reader", name := "want", desc := "(ZI)V" } : Jvm.MethodName)) ∈ lw_all := lw_g (lw_at lw_m3 109 rfl) rfl
theorem q681 : (Jvm.Cond.code ({ cls := "ShoeHouse$Reader", name := "want", desc := "(ZI)V" } : Jvm.MethodName) prog_7_method_8_code (3 : Nat) (Option.none : Option Jvm.ClassFile.FieldType)) ∈ lw_all := lw_g (lw_at lw_m3 110 rfl) rfl
theorem q682 : (Jvm.Cond.classLink "ShoeHouse$Reader" (82 : Nat) "ShoeHouse$Wrong") ∈ lw_all := lw_g (lw_at lw_m3 111 rfl) rfl
theorem q691 : (Jvm.Cond.methodLink "ShoeHouse$Reader" (84 : Nat) ({ cls := "ShoeHouse$Wrong", name := "<init>", desc := "(I)V" } : Jvm.MethodName)) ∈ lw_all := lw_g (lw_at lw_m3 120 rfl) rfl
theorem q706 : (Jvm.Cond.methodLink "ShoeHouse$Reader" (147 : Nat) ({ cls := "ShoeHouse$Reader", name := "number", desc := "(II)I" } : Jvm.MethodName)) ∈ lw_all := lw_g (lw_at lw_m3 135 rfl) rfl
theorem q707 : (Jvm.Cond.privateMethod ({ cls := "ShoeHouse$Reader", name := "number", desc := "(II)I" } : Jvm.MethodName)) ∈ lw_tbl := lw_at lw_m3 136 rfl
theorem q708 : (Jvm.Cond.instanceMethod ({ cls := "ShoeHouse$Reader", name := "number", desc := "(II)I" } : Jvm.MethodName)) ∈ lw_all := lw_g (lw_at lw_m3 137 rfl) rfl
theorem q709 : (Jvm.Cond.code ({ cls := "ShoeHouse$Reader", name := "number", desc := "(II)I" } : Jvm.MethodName) prog_7_method_9_code (4 : Nat) (Option.some Jvm.ClassFile.FieldType.int)) ∈ lw_all := lw_g (lw_at lw_m3 138 rfl) rfl
theorem q710 : (Jvm.Cond.stringRef "ShoeHouse$Reader" (167 : Nat) "lodger") ∈ lw_tbl := lw_at lw_m3 139 rfl
theorem q711 : (Jvm.Cond.methodLink "ShoeHouse$Reader" (169 : Nat) ({ cls := "ShoeHouse$Reader", name := "lodger", desc := "()V" } : Jvm.MethodName)) ∈ lw_all := lw_g (lw_at lw_m3 140 rfl) rfl
theorem q712 : (Jvm.Cond.privateMethod ({ cls := "ShoeHouse$Reader", name := "lodger", desc := "()V" } : Jvm.MethodName)) ∈ lw_tbl := lw_at lw_m3 141 rfl
theorem q713 : (Jvm.Cond.instanceMethod ({ cls := "ShoeHouse$Reader", name := "lodger", desc := "()V" } : Jvm.MethodName)) ∈ lw_all := lw_g (lw_at lw_m3 142 rfl) rfl
theorem q714 : (Jvm.Cond.code ({ cls := "ShoeHouse$Reader", name := "lodger", desc := "()V" } : Jvm.MethodName) prog_7_method_13_code (3 : Nat) (Option.none : Option Jvm.ClassFile.FieldType)) ∈ lw_all := lw_g (lw_at lw_m3 143 rfl) rfl
theorem q715 : (Jvm.Cond.interfaceEntry "ShoeHouse$Reader" (107 : Nat)) ∈ lw_tbl := lw_at lw_m3 144 rfl
theorem q716 : (Jvm.Cond.methodLink "ShoeHouse$Reader" (107 : Nat) ({ cls := "java/util/List", name := "size", desc := "()I" } : Jvm.MethodName)) ∈ lw_all := lw_g (lw_at lw_m3 145 rfl) rfl
theorem q717 : (Jvm.Cond.methodLink "ShoeHouse$Reader" (91 : Nat) ({ cls := "ShoeHouse$Reader", name := "oneNow", desc := "(I)I" } : Jvm.MethodName)) ∈ lw_all := lw_g (lw_at lw_m3 146 rfl) rfl
theorem q718 : (Jvm.Cond.privateMethod ({ cls := "ShoeHouse$Reader", name := "oneNow", desc := "(I)I" } : Jvm.MethodName)) ∈ lw_tbl := lw_at lw_m3 147 rfl
theorem q719 : (Jvm.Cond.instanceMethod ({ cls := "ShoeHouse$Reader", name := "oneNow", desc := "(I)I" } : Jvm.MethodName)) ∈ lw_all := lw_g (lw_at lw_m3 148 rfl) rfl
theorem q720 : (Jvm.Cond.code ({ cls := "ShoeHouse$Reader", name := "oneNow", desc := "(I)I" } : Jvm.MethodName) prog_7_method_10_code (2 : Nat) (Option.some Jvm.ClassFile.FieldType.int)) ∈ lw_all := lw_g (lw_at lw_m3 149 rfl) rfl
theorem q721 : (Jvm.Cond.methodLink "ShoeHouse$Reader" (114 : Nat) ({ cls := "ShoeHouse$House", name := "lodgerOf", desc := "(I)I" } : Jvm.MethodName)) ∈ lw_all := lw_g (lw_at lw_m3 150 rfl) rfl
theorem q722 : (Jvm.Cond.stringRef "ShoeHouse$Reader" (117 : Nat) "left") ∈ lw_tbl := lw_at lw_m3 151 rfl
theorem q723 : (Jvm.Cond.stringRef "ShoeHouse$Reader" (119 : Nat) "right") ∈ lw_tbl := lw_at lw_m3 152 rfl
theorem q724 : (Jvm.Cond.classLink "ShoeHouse$Reader" (121 : Nat) "ShoeHouse$Lodger") ∈ lw_all := lw_g (lw_at lw_m3 153 rfl) rfl
theorem q726 : (Jvm.Cond.methodLink "ShoeHouse$Reader" (123 : Nat) ({ cls := "ShoeHouse$Lodger", name := "<init>", desc := "(II)V" } : Jvm.MethodName)) ∈ lw_all := lw_g (lw_at lw_m3 155 rfl) rfl
theorem q733 : (Jvm.Cond.fieldLinkNest "ShoeHouse$Reader" (144 : Nat) "ShoeHouse$Lodger" "room" "I" "ShoeHouse") ∈ lw_tbl := lw_at lw_m3 162 rfl
theorem q738 : (Jvm.Cond.fieldLinkNest "ShoeHouse$Reader" (149 : Nat) "ShoeHouse$Lodger" "may" "[I" "ShoeHouse") ∈ lw_tbl := lw_at lw_m3 167 rfl
theorem q746 : (Jvm.Cond.interfaceEntry "ShoeHouse$Reader" (126 : Nat)) ∈ lw_tbl := lw_at lw_m3 175 rfl
theorem q747 : (Jvm.Cond.methodLink "ShoeHouse$Reader" (126 : Nat) ({ cls := "java/util/List", name := "add", desc := "(Ljava/lang/Object;)Z" } : Jvm.MethodName)) ∈ lw_all := lw_g (lw_at lw_m3 176 rfl) rfl
theorem q777 : (Jvm.Cond.stringRef "ShoeHouse$Reader" (171 : Nat) "finder") ∈ lw_tbl := lw_at lw_m3 206 rfl
theorem q778 : (Jvm.Cond.methodLink "ShoeHouse$Reader" (133 : Nat) ({ cls := "ShoeHouse$Reader", name := "one", desc := "(I)I" } : Jvm.MethodName)) ∈ lw_all := lw_g (lw_at lw_m3 207 rfl) rfl
theorem q779 : (Jvm.Cond.privateMethod ({ cls := "ShoeHouse$Reader", name := "one", desc := "(I)I" } : Jvm.MethodName)) ∈ lw_tbl := lw_at lw_m3 208 rfl
theorem q780 : (Jvm.Cond.instanceMethod ({ cls := "ShoeHouse$Reader", name := "one", desc := "(I)I" } : Jvm.MethodName)) ∈ lw_all := lw_g (lw_at lw_m3 209 rfl) rfl
theorem q781 : (Jvm.Cond.code ({ cls := "ShoeHouse$Reader", name := "one", desc := "(I)I" } : Jvm.MethodName) prog_7_method_11_code (3 : Nat) (Option.some Jvm.ClassFile.FieldType.int)) ∈ lw_all := lw_g (lw_at lw_m3 210 rfl) rfl
theorem q782 : (Jvm.Cond.stringRef "ShoeHouse$Reader" (178 : Nat) "may") ∈ lw_tbl := lw_at lw_m3 211 rfl
theorem q783 : (Jvm.Cond.methodLink "ShoeHouse$Reader" (179 : Nat) ({ cls := "ShoeHouse$Reader", name := "may", desc := "()V" } : Jvm.MethodName)) ∈ lw_all := lw_g (lw_at lw_m3 212 rfl) rfl
theorem q784 : (Jvm.Cond.privateMethod ({ cls := "ShoeHouse$Reader", name := "may", desc := "()V" } : Jvm.MethodName)) ∈ lw_tbl := lw_at lw_m3 213 rfl
theorem q785 : (Jvm.Cond.instanceMethod ({ cls := "ShoeHouse$Reader", name := "may", desc := "()V" } : Jvm.MethodName)) ∈ lw_all := lw_g (lw_at lw_m3 214 rfl) rfl
theorem q786 : (Jvm.Cond.code ({ cls := "ShoeHouse$Reader", name := "may", desc := "()V" } : Jvm.MethodName) prog_7_method_14_code (6 : Nat) (Option.none : Option Jvm.ClassFile.FieldType)) ∈ lw_all := lw_g (lw_at lw_m3 215 rfl) rfl
theorem q787 : (Jvm.Cond.interfaceEntry "ShoeHouse$Reader" (136 : Nat)) ∈ lw_tbl := lw_at lw_m3 216 rfl
theorem q788 : (Jvm.Cond.methodLink "ShoeHouse$Reader" (136 : Nat) ({ cls := "java/util/List", name := "get", desc := "(I)Ljava/lang/Object;" } : Jvm.MethodName)) ∈ lw_all := lw_g (lw_at lw_m3 217 rfl) rfl
theorem q789 : (Jvm.Cond.methodLink "ShoeHouse$Reader" (140 : Nat) ({ cls := "ShoeHouse$Reader", name := "doing", desc := "()I" } : Jvm.MethodName)) ∈ lw_all := lw_g (lw_at lw_m3 218 rfl) rfl
theorem q790 : (Jvm.Cond.privateMethod ({ cls := "ShoeHouse$Reader", name := "doing", desc := "()I" } : Jvm.MethodName)) ∈ lw_tbl := lw_at lw_m3 219 rfl
theorem q791 : (Jvm.Cond.instanceMethod ({ cls := "ShoeHouse$Reader", name := "doing", desc := "()I" } : Jvm.MethodName)) ∈ lw_all := lw_g (lw_at lw_m3 220 rfl) rfl
theorem q792 : (Jvm.Cond.code ({ cls := "ShoeHouse$Reader", name := "doing", desc := "()I" } : Jvm.MethodName) prog_7_method_12_code (1 : Nat) (Option.some Jvm.ClassFile.FieldType.int)) ∈ lw_all := lw_g (lw_at lw_m3 221 rfl) rfl
theorem q793 : (Jvm.Cond.stringRef "ShoeHouse$Reader" (95 : Nat) "out") ∈ lw_tbl := lw_at lw_m3 222 rfl
theorem q794 : (Jvm.Cond.stringRef "ShoeHouse$Reader" (97 : Nat) "asleep") ∈ lw_tbl := lw_at lw_m3 223 rfl
theorem q795 : (Jvm.Cond.stringRef "ShoeHouse$Reader" (99 : Nat) "cross") ∈ lw_tbl := lw_at lw_m3 224 rfl
theorem q796 : (Jvm.Cond.stringRef "ShoeHouse$Reader" (101 : Nat) "calm") ∈ lw_tbl := lw_at lw_m3 225 rfl
theorem q797 : (Jvm.Cond.stringRef "ShoeHouse$Reader" (143 : Nat) "at") ∈ lw_tbl := lw_at lw_m3 226 rfl
theorem q798 : (Jvm.Cond.stringRef "ShoeHouse$Reader" (181 : Nat) "law") ∈ lw_tbl := lw_at lw_m3 227 rfl
theorem q799 : (Jvm.Cond.methodLink "ShoeHouse$Reader" (182 : Nat) ({ cls := "ShoeHouse$Reader", name := "passes", desc := "(Ljava/lang/String;)Z" } : Jvm.MethodName)) ∈ lw_all := lw_g (lw_at lw_m3 228 rfl) rfl
theorem q800 : (Jvm.Cond.privateMethod ({ cls := "ShoeHouse$Reader", name := "passes", desc := "(Ljava/lang/String;)Z" } : Jvm.MethodName)) ∈ lw_tbl := lw_at lw_m3 229 rfl
theorem q801 : (Jvm.Cond.instanceMethod ({ cls := "ShoeHouse$Reader", name := "passes", desc := "(Ljava/lang/String;)Z" } : Jvm.MethodName)) ∈ lw_all := lw_g (lw_at lw_m3 230 rfl) rfl
theorem q802 : (Jvm.Cond.code ({ cls := "ShoeHouse$Reader", name := "passes", desc := "(Ljava/lang/String;)Z" } : Jvm.MethodName) prog_7_method_7_code (3 : Nat) (Option.some Jvm.ClassFile.FieldType.boolean)) ∈ lw_all := lw_g (lw_at lw_m3 231 rfl) rfl
theorem q803 : (Jvm.Cond.methodLink "ShoeHouse$Reader" (185 : Nat) ({ cls := "ShoeHouse$Reader", name := "law", desc := "()V" } : Jvm.MethodName)) ∈ lw_all := lw_g (lw_at lw_m3 232 rfl) rfl
theorem q804 : (Jvm.Cond.privateMethod ({ cls := "ShoeHouse$Reader", name := "law", desc := "()V" } : Jvm.MethodName)) ∈ lw_tbl := lw_at lw_m3 233 rfl
theorem q805 : (Jvm.Cond.instanceMethod ({ cls := "ShoeHouse$Reader", name := "law", desc := "()V" } : Jvm.MethodName)) ∈ lw_all := lw_g (lw_at lw_m3 234 rfl) rfl
theorem q806 : (Jvm.Cond.code ({ cls := "ShoeHouse$Reader", name := "law", desc := "()V" } : Jvm.MethodName) prog_7_method_15_code (3 : Nat) (Option.none : Option Jvm.ClassFile.FieldType)) ∈ lw_all := lw_g (lw_at lw_m3 235 rfl) rfl
theorem q807 : (Jvm.Cond.stringRef "ShoeHouse$Reader" (156 : Nat) "none") ∈ lw_tbl := lw_at lw_m3 236 rfl
theorem q808 : (Jvm.Cond.stringRef "ShoeHouse$Reader" (158 : Nat) "both") ∈ lw_tbl := lw_at lw_m3 237 rfl
theorem q1789 : (Jvm.Cond.castable "ShoeHouse$Reader" "java/lang/Object") ∈ lw_tbl := lw_at lw_m8 18 rfl
theorem in_X4 : ∀ w ∈ wsX40, w ∈ lw_all := lw_in wsX40 [580, 582, 584, 586, 588, 590, 592, 594, 596] (by decide +kernel) (by decide +kernel)
/-! ShoeHouse$Wrong -/
def RX5 : String := "ShoeHouse$Wrong"
def TX5 : u_T := fun k => match k with
  | 0 => ("java/lang/Throwable", "cause", "Ljava/lang/Throwable;", false)
  | 1 => ("java/lang/Throwable", "stackTrace", "[Ljava/lang/StackTraceElement;", false)
  | 2 => ("java/lang/Throwable", "suppressedExceptions", "Ljava/util/List;", false)
  | 3 => ("java/lang/Throwable", "detailMessage", "Ljava/lang/String;", false)
  | 4 => ("java/lang/Throwable", "backtrace", "Ljava/lang/Object;", false)
  | 5 => ("java/lang/Throwable", "depth", "I", false)
  | _ => ("ShoeHouse$Wrong", "kind", "I", true)
def tyX5 : Nat → FieldType := fun k => match k with
  | 0 => .object "java/lang/Throwable"
  | 1 => .array (.object "java/lang/StackTraceElement")
  | 2 => .object "java/util/List"
  | 3 => .object "java/lang/String"
  | 4 => .object "java/lang/Object"
  | 5 => .int
  | _ => .int
abbrev wsX50 : List Cond := u_ws RX5 TX5 7
theorem nmX5 : ∀ a, a < 7 → ∀ b, b < 7 → a ≠ b → (TX5 a).2.1 ≠ (TX5 b).2.1 := by decide +kernel
theorem tyX5_ok : ∀ k, k < 7 → parseFieldDescriptor (TX5 k).2.2.1 = some (tyX5 k) := by decide +kernel
abbrev cX5_init : ByteArray := prog_9_method_1_code
def yX5_init : MethodName := ⟨RX5, "<init>", "(I)V"⟩
theorem q108 : (Jvm.Cond.initialized "ShoeHouse$Wrong") ∈ lw_all := lw_g (lw_at lw_m1 17 rfl) rfl
theorem q452 : (Jvm.Cond.selects "ShoeHouse$Wrong" ({ cls := "java/lang/Object", name := "getClass", desc := "()Ljava/lang/Class;" } : Jvm.MethodName) ({ cls := "java/lang/Object", name := "getClass", desc := "()Ljava/lang/Class;" } : Jvm.MethodName)) ∈ lw_all := lw_g (lw_at lw_m2 121 rfl) rfl
theorem q531 : (Jvm.Cond.selects "ShoeHouse$Wrong" ({ cls := "java/lang/Throwable", name := "fillInStackTrace", desc := "()Ljava/lang/Throwable;" } : Jvm.MethodName) ({ cls := "java/lang/Throwable", name := "fillInStackTrace", desc := "()Ljava/lang/Throwable;" } : Jvm.MethodName)) ∈ lw_all := lw_g (lw_at lw_m2 200 rfl) rfl
theorem q683 : (Jvm.Cond.instantiable "ShoeHouse$Wrong" (7 : Nat)) ∈ lw_all := lw_g (lw_at lw_m3 112 rfl) rfl
theorem q684 : (Jvm.Cond.castable "ShoeHouse$Wrong" "ShoeHouse$Wrong") ∈ lw_tbl := lw_at lw_m3 113 rfl
theorem q685 : (Jvm.Cond.selects "ShoeHouse$Wrong" ({ cls := "java/lang/Throwable", name := "fillInStackTrace", desc := "(I)Ljava/lang/Throwable;" } : Jvm.MethodName) ({ cls := "java/lang/Throwable", name := "fillInStackTrace", desc := "(I)Ljava/lang/Throwable;" } : Jvm.MethodName)) ∈ lw_all := lw_g (lw_at lw_m3 114 rfl) rfl
theorem q686 : (Jvm.Cond.lays "ShoeHouse$Wrong" "java/lang/Throwable" "cause" "Ljava/lang/Throwable;") ∈ lw_all := lw_g (lw_at lw_m3 115 rfl) rfl
theorem q687 : (Jvm.Cond.lays "ShoeHouse$Wrong" "java/lang/Throwable" "stackTrace" "[Ljava/lang/StackTraceElement;") ∈ lw_all := lw_g (lw_at lw_m3 116 rfl) rfl
theorem q688 : (Jvm.Cond.lays "ShoeHouse$Wrong" "java/lang/Throwable" "suppressedExceptions" "Ljava/util/List;") ∈ lw_all := lw_g (lw_at lw_m3 117 rfl) rfl
theorem q689 : (Jvm.Cond.lays "ShoeHouse$Wrong" "java/lang/Throwable" "detailMessage" "Ljava/lang/String;") ∈ lw_all := lw_g (lw_at lw_m3 118 rfl) rfl
theorem q690 : (Jvm.Cond.lays "ShoeHouse$Wrong" "java/lang/Throwable" "backtrace" "Ljava/lang/Object;") ∈ lw_all := lw_g (lw_at lw_m3 119 rfl) rfl
theorem q692 : (Jvm.Cond.instanceMethod ({ cls := "ShoeHouse$Wrong", name := "<init>", desc := "(I)V" } : Jvm.MethodName)) ∈ lw_all := lw_g (lw_at lw_m3 121 rfl) rfl
theorem q693 : (Jvm.Cond.code ({ cls := "ShoeHouse$Wrong", name := "<init>", desc := "(I)V" } : Jvm.MethodName) prog_9_method_1_code (2 : Nat) (Option.none : Option Jvm.ClassFile.FieldType)) ∈ lw_all := lw_g (lw_at lw_m3 122 rfl) rfl
theorem q694 : (Jvm.Cond.methodLink "ShoeHouse$Wrong" (1 : Nat) ({ cls := "java/lang/Exception", name := "<init>", desc := "(Ljava/lang/String;Ljava/lang/Throwable;ZZ)V" } : Jvm.MethodName)) ∈ lw_all := lw_g (lw_at lw_m3 123 rfl) rfl
theorem q700 : (Jvm.Cond.fieldLink "ShoeHouse$Wrong" (7 : Nat) "ShoeHouse$Wrong" "kind" "I") ∈ lw_all := lw_g (lw_at lw_m3 129 rfl) rfl
theorem q702 : (Jvm.Cond.laysFinal "ShoeHouse$Wrong" "ShoeHouse$Wrong" "kind" "I") ∈ lw_all := lw_g (lw_at lw_m3 131 rfl) rfl
theorem q703 : (Jvm.Cond.soleField "ShoeHouse$Wrong" "kind") ∈ lw_all := lw_g (lw_at lw_m3 132 rfl) rfl
theorem q704 : (Jvm.Cond.lays "ShoeHouse$Wrong" "java/lang/Throwable" "depth" "I") ∈ lw_all := lw_g (lw_at lw_m3 133 rfl) rfl
theorem q705 : (Jvm.Cond.superclass "ShoeHouse$Wrong" "java/lang/Exception") ∈ lw_all := lw_g (lw_at lw_m3 134 rfl) rfl
theorem q1790 : (Jvm.Cond.castable "ShoeHouse$Wrong" "java/lang/Object") ∈ lw_tbl := lw_at lw_m8 19 rfl
theorem in_X5 : ∀ w ∈ wsX50, w ∈ lw_all := lw_in wsX50 [686, 687, 688, 689, 690, 704, 702] (by decide +kernel) (by decide +kernel)
/-! ShoeHouse$Lodger -/
def RX6 : String := "ShoeHouse$Lodger"
def TX6 : u_T := fun k => match k with
  | 0 => ("ShoeHouse$Lodger", "room", "I", true)
  | 1 => ("ShoeHouse$Lodger", "shoes", "[I", true)
  | _ => ("ShoeHouse$Lodger", "may", "[I", true)
def tyX6 : Nat → FieldType := fun k => match k with
  | 0 => .int
  | 1 => .array .int
  | _ => .array .int
abbrev wsX60 : List Cond := u_ws RX6 TX6 3
theorem nmX6 : ∀ a, a < 3 → ∀ b, b < 3 → a ≠ b → (TX6 a).2.1 ≠ (TX6 b).2.1 := by decide +kernel
theorem tyX6_ok : ∀ k, k < 3 → parseFieldDescriptor (TX6 k).2.2.1 = some (tyX6 k) := by decide +kernel
abbrev cX6_all : ByteArray := prog_6_method_2_code
def yX6_all : MethodName := ⟨RX6, "all", "(I)[I"⟩
abbrev cX6_init : ByteArray := prog_6_method_1_code
def yX6_init : MethodName := ⟨RX6, "<init>", "(II)V"⟩
abbrev cX6_place : ByteArray := prog_6_method_3_code
def yX6_place : MethodName := ⟨RX6, "place", "(I)I"⟩
theorem q110 : (Jvm.Cond.initialized "ShoeHouse$Lodger") ∈ lw_all := lw_g (lw_at lw_m1 19 rfl) rfl
theorem q345 : (Jvm.Cond.instanceMethod ({ cls := "ShoeHouse$Lodger", name := "all", desc := "(I)[I" } : Jvm.MethodName)) ∈ lw_all := lw_g (lw_at lw_m2 14 rfl) rfl
theorem q346 : (Jvm.Cond.selects "ShoeHouse$Lodger" ({ cls := "ShoeHouse$Lodger", name := "all", desc := "(I)[I" } : Jvm.MethodName) ({ cls := "ShoeHouse$Lodger", name := "all", desc := "(I)[I" } : Jvm.MethodName)) ∈ lw_all := lw_g (lw_at lw_m2 15 rfl) rfl
theorem q347 : (Jvm.Cond.code ({ cls := "ShoeHouse$Lodger", name := "all", desc := "(I)[I" } : Jvm.MethodName) prog_6_method_2_code (5 : Nat) (Option.some (Jvm.ClassFile.FieldType.array Jvm.ClassFile.FieldType.int))) ∈ lw_all := lw_g (lw_at lw_m2 16 rfl) rfl
theorem q348 : (Jvm.Cond.methodLink "ShoeHouse$Lodger" (22 : Nat) ({ cls := "java/lang/Integer", name := "bitCount", desc := "(I)I" } : Jvm.MethodName)) ∈ lw_all := lw_g (lw_at lw_m2 17 rfl) rfl
theorem q354 : (Jvm.Cond.methodLink "ShoeHouse$Lodger" (28 : Nat) ({ cls := "java/lang/Math", name := "max", desc := "(II)I" } : Jvm.MethodName)) ∈ lw_all := lw_g (lw_at lw_m2 23 rfl) rfl
theorem q449 : (Jvm.Cond.selects "ShoeHouse$Lodger" ({ cls := "java/lang/Object", name := "getClass", desc := "()Ljava/lang/Class;" } : Jvm.MethodName) ({ cls := "java/lang/Object", name := "getClass", desc := "()Ljava/lang/Class;" } : Jvm.MethodName)) ∈ lw_all := lw_g (lw_at lw_m2 118 rfl) rfl
theorem q725 : (Jvm.Cond.instantiable "ShoeHouse$Lodger" (3 : Nat)) ∈ lw_all := lw_g (lw_at lw_m3 154 rfl) rfl
theorem q727 : (Jvm.Cond.instanceMethod ({ cls := "ShoeHouse$Lodger", name := "<init>", desc := "(II)V" } : Jvm.MethodName)) ∈ lw_all := lw_g (lw_at lw_m3 156 rfl) rfl
theorem q728 : (Jvm.Cond.code ({ cls := "ShoeHouse$Lodger", name := "<init>", desc := "(II)V" } : Jvm.MethodName) prog_6_method_1_code (3 : Nat) (Option.none : Option Jvm.ClassFile.FieldType)) ∈ lw_all := lw_g (lw_at lw_m3 157 rfl) rfl
theorem q729 : (Jvm.Cond.methodLink "ShoeHouse$Lodger" (3 : Nat) ({ cls := "java/lang/Object", name := "<init>", desc := "()V" } : Jvm.MethodName)) ∈ lw_all := lw_g (lw_at lw_m3 158 rfl) rfl
theorem q730 : (Jvm.Cond.fieldLink "ShoeHouse$Lodger" (18 : Nat) "ShoeHouse$Lodger" "room" "I") ∈ lw_all := lw_g (lw_at lw_m3 159 rfl) rfl
theorem q735 : (Jvm.Cond.fieldLink "ShoeHouse$Lodger" (9 : Nat) "ShoeHouse$Lodger" "shoes" "[I") ∈ lw_all := lw_g (lw_at lw_m3 164 rfl) rfl
theorem q737 : (Jvm.Cond.fieldLink "ShoeHouse$Lodger" (15 : Nat) "ShoeHouse$Lodger" "may" "[I") ∈ lw_all := lw_g (lw_at lw_m3 166 rfl) rfl
theorem q739 : (Jvm.Cond.laysFinal "ShoeHouse$Lodger" "ShoeHouse$Lodger" "room" "I") ∈ lw_all := lw_g (lw_at lw_m3 168 rfl) rfl
theorem q740 : (Jvm.Cond.soleField "ShoeHouse$Lodger" "room") ∈ lw_all := lw_g (lw_at lw_m3 169 rfl) rfl
theorem q741 : (Jvm.Cond.laysFinal "ShoeHouse$Lodger" "ShoeHouse$Lodger" "shoes" "[I") ∈ lw_all := lw_g (lw_at lw_m3 170 rfl) rfl
theorem q742 : (Jvm.Cond.soleField "ShoeHouse$Lodger" "shoes") ∈ lw_all := lw_g (lw_at lw_m3 171 rfl) rfl
theorem q743 : (Jvm.Cond.laysFinal "ShoeHouse$Lodger" "ShoeHouse$Lodger" "may" "[I") ∈ lw_all := lw_g (lw_at lw_m3 172 rfl) rfl
theorem q744 : (Jvm.Cond.soleField "ShoeHouse$Lodger" "may") ∈ lw_all := lw_g (lw_at lw_m3 173 rfl) rfl
theorem q745 : (Jvm.Cond.superclass "ShoeHouse$Lodger" "java/lang/Object") ∈ lw_all := lw_g (lw_at lw_m3 174 rfl) rfl
theorem q974 : (Jvm.Cond.instanceMethod ({ cls := "ShoeHouse$Lodger", name := "place", desc := "(I)I" } : Jvm.MethodName)) ∈ lw_all := lw_g (lw_at lw_m4 163 rfl) rfl
theorem q975 : (Jvm.Cond.selects "ShoeHouse$Lodger" ({ cls := "ShoeHouse$Lodger", name := "place", desc := "(I)I" } : Jvm.MethodName) ({ cls := "ShoeHouse$Lodger", name := "place", desc := "(I)I" } : Jvm.MethodName)) ∈ lw_all := lw_g (lw_at lw_m4 164 rfl) rfl
theorem q976 : (Jvm.Cond.code ({ cls := "ShoeHouse$Lodger", name := "place", desc := "(I)I" } : Jvm.MethodName) prog_6_method_3_code (2 : Nat) (Option.some Jvm.ClassFile.FieldType.int)) ∈ lw_all := lw_g (lw_at lw_m4 165 rfl) rfl
theorem q1791 : (Jvm.Cond.castable "ShoeHouse$Lodger" "java/lang/Object") ∈ lw_tbl := lw_at lw_m8 20 rfl
theorem in_X6 : ∀ w ∈ wsX60, w ∈ lw_all := lw_in wsX60 [739, 741, 743] (by decide +kernel) (by decide +kernel)
/-! ShoeHouse$Loan -/
def RX7 : String := "ShoeHouse$Loan"
def TX7 : u_T := fun k => match k with
  | 0 => ("ShoeHouse$Loan", "from", "I", true)
  | 1 => ("ShoeHouse$Loan", "to", "I", true)
  | _ => ("ShoeHouse$Loan", "shoe", "I", true)
def tyX7 : Nat → FieldType := fun k => match k with
  | 0 => .int
  | 1 => .int
  | _ => .int
abbrev wsX70 : List Cond := u_ws RX7 TX7 3
theorem nmX7 : ∀ a, a < 3 → ∀ b, b < 3 → a ≠ b → (TX7 a).2.1 ≠ (TX7 b).2.1 := by decide +kernel
theorem tyX7_ok : ∀ k, k < 3 → parseFieldDescriptor (TX7 k).2.2.1 = some (tyX7 k) := by decide +kernel
abbrev cX7_init : ByteArray := prog_5_method_1_code
def yX7_init : MethodName := ⟨RX7, "<init>", "(III)V"⟩
theorem q116 : (Jvm.Cond.initialized "ShoeHouse$Loan") ∈ lw_all := lw_g (lw_at lw_m1 25 rfl) rfl
theorem q448 : (Jvm.Cond.selects "ShoeHouse$Loan" ({ cls := "java/lang/Object", name := "getClass", desc := "()Ljava/lang/Class;" } : Jvm.MethodName) ({ cls := "java/lang/Object", name := "getClass", desc := "()Ljava/lang/Class;" } : Jvm.MethodName)) ∈ lw_all := lw_g (lw_at lw_m2 117 rfl) rfl
theorem q888 : (Jvm.Cond.instantiable "ShoeHouse$Loan" (3 : Nat)) ∈ lw_all := lw_g (lw_at lw_m4 77 rfl) rfl
theorem q890 : (Jvm.Cond.instanceMethod ({ cls := "ShoeHouse$Loan", name := "<init>", desc := "(III)V" } : Jvm.MethodName)) ∈ lw_all := lw_g (lw_at lw_m4 79 rfl) rfl
theorem q891 : (Jvm.Cond.code ({ cls := "ShoeHouse$Loan", name := "<init>", desc := "(III)V" } : Jvm.MethodName) prog_5_method_1_code (4 : Nat) (Option.none : Option Jvm.ClassFile.FieldType)) ∈ lw_all := lw_g (lw_at lw_m4 80 rfl) rfl
theorem q892 : (Jvm.Cond.methodLink "ShoeHouse$Loan" (1 : Nat) ({ cls := "java/lang/Object", name := "<init>", desc := "()V" } : Jvm.MethodName)) ∈ lw_all := lw_g (lw_at lw_m4 81 rfl) rfl
theorem q893 : (Jvm.Cond.fieldLink "ShoeHouse$Loan" (7 : Nat) "ShoeHouse$Loan" "from" "I") ∈ lw_all := lw_g (lw_at lw_m4 82 rfl) rfl
theorem q895 : (Jvm.Cond.fieldLink "ShoeHouse$Loan" (13 : Nat) "ShoeHouse$Loan" "to" "I") ∈ lw_all := lw_g (lw_at lw_m4 84 rfl) rfl
theorem q897 : (Jvm.Cond.fieldLink "ShoeHouse$Loan" (16 : Nat) "ShoeHouse$Loan" "shoe" "I") ∈ lw_all := lw_g (lw_at lw_m4 86 rfl) rfl
theorem q899 : (Jvm.Cond.laysFinal "ShoeHouse$Loan" "ShoeHouse$Loan" "from" "I") ∈ lw_all := lw_g (lw_at lw_m4 88 rfl) rfl
theorem q900 : (Jvm.Cond.soleField "ShoeHouse$Loan" "from") ∈ lw_all := lw_g (lw_at lw_m4 89 rfl) rfl
theorem q901 : (Jvm.Cond.laysFinal "ShoeHouse$Loan" "ShoeHouse$Loan" "to" "I") ∈ lw_all := lw_g (lw_at lw_m4 90 rfl) rfl
theorem q902 : (Jvm.Cond.soleField "ShoeHouse$Loan" "to") ∈ lw_all := lw_g (lw_at lw_m4 91 rfl) rfl
theorem q903 : (Jvm.Cond.laysFinal "ShoeHouse$Loan" "ShoeHouse$Loan" "shoe" "I") ∈ lw_all := lw_g (lw_at lw_m4 92 rfl) rfl
theorem q904 : (Jvm.Cond.soleField "ShoeHouse$Loan" "shoe") ∈ lw_all := lw_g (lw_at lw_m4 93 rfl) rfl
theorem q905 : (Jvm.Cond.superclass "ShoeHouse$Loan" "java/lang/Object") ∈ lw_all := lw_g (lw_at lw_m4 94 rfl) rfl
theorem q1793 : (Jvm.Cond.castable "ShoeHouse$Loan" "java/lang/Object") ∈ lw_tbl := lw_at lw_m8 22 rfl
theorem in_X7 : ∀ w ∈ wsX70, w ∈ lw_all := lw_in wsX70 [899, 901, 903] (by decide +kernel) (by decide +kernel)
/-! ShoeHouse$Cases -/
def RX8 : String := "ShoeHouse$Cases"
def TX8 : u_T := fun k => match k with
  | 0 => ("ShoeHouse$Cases", "may", "[[I", true)
  | 1 => ("ShoeHouse$Cases", "many", "I", false)
  | _ => ("ShoeHouse$Cases", "this$0", "LShoeHouse;", true)
def tyX8 : Nat → FieldType := fun k => match k with
  | 0 => .array (.array .int)
  | 1 => .int
  | _ => .object "ShoeHouse"
abbrev wsX80 : List Cond := u_ws RX8 TX8 3
theorem nmX8 : ∀ a, a < 3 → ∀ b, b < 3 → a ≠ b → (TX8 a).2.1 ≠ (TX8 b).2.1 := by decide +kernel
theorem tyX8_ok : ∀ k, k < 3 → parseFieldDescriptor (TX8 k).2.2.1 = some (tyX8 k) := by decide +kernel
abbrev cX8_init : ByteArray := prog_2_method_1_code
def yX8_init : MethodName := ⟨RX8, "<init>", "(LShoeHouse;II[I)V"⟩
abbrev cX8_does : ByteArray := prog_2_method_2_code
def yX8_does : MethodName := ⟨RX8, "does", "(II)I"⟩
abbrev cX8_empty : ByteArray := prog_2_method_4_code
def yX8_empty : MethodName := ⟨RX8, "empty", "(I)I"⟩
abbrev cX8_absences : ByteArray := prog_2_method_3_code
def yX8_absences : MethodName := ⟨RX8, "absences", "(II)I"⟩
theorem q117 : (Jvm.Cond.initialized "ShoeHouse$Cases") ∈ lw_all := lw_g (lw_at lw_m1 26 rfl) rfl
theorem q173 : (Jvm.Cond.fieldLinkNest "ShoeHouse$Cases" (50 : Nat) "ShoeHouse$House" "rooms" "I" "ShoeHouse") ∈ lw_tbl := lw_at lw_m1 82 rfl
theorem q199 : (Jvm.Cond.fieldLinkNest "ShoeHouse$Cases" (46 : Nat) "ShoeHouse" "house" "LShoeHouse$House;" "ShoeHouse") ∈ lw_tbl := lw_at lw_m1 108 rfl
theorem q372 : (Jvm.Cond.instantiable "ShoeHouse$Cases" (3 : Nat)) ∈ lw_all := lw_g (lw_at lw_m2 41 rfl) rfl
theorem q375 : (Jvm.Cond.instanceMethod ({ cls := "ShoeHouse$Cases", name := "<init>", desc := "(LShoeHouse;II[I)V" } : Jvm.MethodName)) ∈ lw_all := lw_g (lw_at lw_m2 44 rfl) rfl
theorem q376 : (Jvm.Cond.code ({ cls := "ShoeHouse$Cases", name := "<init>", desc := "(LShoeHouse;II[I)V" } : Jvm.MethodName) prog_2_method_1_code (12 : Nat) (Option.none : Option Jvm.ClassFile.FieldType)) ∈ lw_all := lw_g (lw_at lw_m2 45 rfl) rfl
theorem q377 : (Jvm.Cond.methodLink "ShoeHouse$Cases" (9 : Nat) ({ cls := "java/lang/Object", name := "<init>", desc := "()V" } : Jvm.MethodName)) ∈ lw_all := lw_g (lw_at lw_m2 46 rfl) rfl
theorem q378 : (Jvm.Cond.classLink "ShoeHouse$Cases" (15 : Nat) "[I") ∈ lw_all := lw_g (lw_at lw_m2 47 rfl) rfl
theorem q380 : (Jvm.Cond.methodLinkNest "ShoeHouse$Cases" (25 : Nat) ({ cls := "ShoeHouse", name := "lodgers", desc := "()I" } : Jvm.MethodName) "ShoeHouse") ∈ lw_tbl := lw_at lw_m2 49 rfl
theorem q381 : (Jvm.Cond.methodLinkNest "ShoeHouse$Cases" (29 : Nat) ({ cls := "ShoeHouse", name := "of", desc := "(I)LShoeHouse$Lodger;" } : Jvm.MethodName) "ShoeHouse") ∈ lw_tbl := lw_at lw_m2 50 rfl
theorem q382 : (Jvm.Cond.methodLink "ShoeHouse$Cases" (33 : Nat) ({ cls := "ShoeHouse$Lodger", name := "all", desc := "(I)[I" } : Jvm.MethodName)) ∈ lw_all := lw_g (lw_at lw_m2 51 rfl) rfl
theorem q383 : (Jvm.Cond.methodLinkNest "ShoeHouse$Cases" (42 : Nat) ({ cls := "ShoeHouse", name := "signFor", desc := "(II)I" } : Jvm.MethodName) "ShoeHouse") ∈ lw_tbl := lw_at lw_m2 52 rfl
theorem q400 : (Jvm.Cond.methodLink "ShoeHouse$Cases" (55 : Nat) ({ cls := "ShoeHouse$House", name := "lodgerOf", desc := "(I)I" } : Jvm.MethodName)) ∈ lw_all := lw_g (lw_at lw_m2 69 rfl) rfl
theorem q409 : (Jvm.Cond.fieldLink "ShoeHouse$Cases" (17 : Nat) "ShoeHouse$Cases" "may" "[[I") ∈ lw_all := lw_g (lw_at lw_m2 78 rfl) rfl
theorem q411 : (Jvm.Cond.fieldLink "ShoeHouse$Cases" (21 : Nat) "ShoeHouse$Cases" "many" "I") ∈ lw_all := lw_g (lw_at lw_m2 80 rfl) rfl
theorem q413 : (Jvm.Cond.fieldLink "ShoeHouse$Cases" (3 : Nat) "ShoeHouse$Cases" "this$0" "LShoeHouse;") ∈ lw_all := lw_g (lw_at lw_m2 82 rfl) rfl
theorem q414 : (Jvm.Cond.laysFinal "ShoeHouse$Cases" "ShoeHouse$Cases" "may" "[[I") ∈ lw_all := lw_g (lw_at lw_m2 83 rfl) rfl
theorem q415 : (Jvm.Cond.soleField "ShoeHouse$Cases" "may") ∈ lw_all := lw_g (lw_at lw_m2 84 rfl) rfl
theorem q416 : (Jvm.Cond.lays "ShoeHouse$Cases" "ShoeHouse$Cases" "many" "I") ∈ lw_all := lw_g (lw_at lw_m2 85 rfl) rfl
theorem q417 : (Jvm.Cond.soleField "ShoeHouse$Cases" "many") ∈ lw_all := lw_g (lw_at lw_m2 86 rfl) rfl
theorem q418 : (Jvm.Cond.laysFinal "ShoeHouse$Cases" "ShoeHouse$Cases" "this$0" "LShoeHouse;") ∈ lw_all := lw_g (lw_at lw_m2 87 rfl) rfl
theorem q419 : (Jvm.Cond.soleField "ShoeHouse$Cases" "this$0") ∈ lw_all := lw_g (lw_at lw_m2 88 rfl) rfl
theorem q420 : (Jvm.Cond.superclass "ShoeHouse$Cases" "java/lang/Object") ∈ lw_all := lw_g (lw_at lw_m2 89 rfl) rfl
theorem q445 : (Jvm.Cond.selects "ShoeHouse$Cases" ({ cls := "java/lang/Object", name := "getClass", desc := "()Ljava/lang/Class;" } : Jvm.MethodName) ({ cls := "java/lang/Object", name := "getClass", desc := "()Ljava/lang/Class;" } : Jvm.MethodName)) ∈ lw_all := lw_g (lw_at lw_m2 114 rfl) rfl
theorem q731 : (Jvm.Cond.fieldLinkNest "ShoeHouse$Cases" (39 : Nat) "ShoeHouse$Lodger" "room" "I" "ShoeHouse") ∈ lw_tbl := lw_at lw_m3 160 rfl
theorem q955 : (Jvm.Cond.instanceMethod ({ cls := "ShoeHouse$Cases", name := "does", desc := "(II)I" } : Jvm.MethodName)) ∈ lw_all := lw_g (lw_at lw_m4 144 rfl) rfl
theorem q956 : (Jvm.Cond.selects "ShoeHouse$Cases" ({ cls := "ShoeHouse$Cases", name := "does", desc := "(II)I" } : Jvm.MethodName) ({ cls := "ShoeHouse$Cases", name := "does", desc := "(II)I" } : Jvm.MethodName)) ∈ lw_all := lw_g (lw_at lw_m4 145 rfl) rfl
theorem q957 : (Jvm.Cond.code ({ cls := "ShoeHouse$Cases", name := "does", desc := "(II)I" } : Jvm.MethodName) prog_2_method_2_code (5 : Nat) (Option.some Jvm.ClassFile.FieldType.int)) ∈ lw_all := lw_g (lw_at lw_m4 146 rfl) rfl
theorem q966 : (Jvm.Cond.instanceMethod ({ cls := "ShoeHouse$Cases", name := "empty", desc := "(I)I" } : Jvm.MethodName)) ∈ lw_all := lw_g (lw_at lw_m4 155 rfl) rfl
theorem q967 : (Jvm.Cond.selects "ShoeHouse$Cases" ({ cls := "ShoeHouse$Cases", name := "empty", desc := "(I)I" } : Jvm.MethodName) ({ cls := "ShoeHouse$Cases", name := "empty", desc := "(I)I" } : Jvm.MethodName)) ∈ lw_all := lw_g (lw_at lw_m4 156 rfl) rfl
theorem q968 : (Jvm.Cond.code ({ cls := "ShoeHouse$Cases", name := "empty", desc := "(I)I" } : Jvm.MethodName) prog_2_method_4_code (4 : Nat) (Option.some Jvm.ClassFile.FieldType.int)) ∈ lw_all := lw_g (lw_at lw_m4 157 rfl) rfl
theorem q969 : (Jvm.Cond.methodLink "ShoeHouse$Cases" (62 : Nat) ({ cls := "ShoeHouse$Cases", name := "absences", desc := "(II)I" } : Jvm.MethodName)) ∈ lw_all := lw_g (lw_at lw_m4 158 rfl) rfl
theorem q970 : (Jvm.Cond.instanceMethod ({ cls := "ShoeHouse$Cases", name := "absences", desc := "(II)I" } : Jvm.MethodName)) ∈ lw_all := lw_g (lw_at lw_m4 159 rfl) rfl
theorem q971 : (Jvm.Cond.selects "ShoeHouse$Cases" ({ cls := "ShoeHouse$Cases", name := "absences", desc := "(II)I" } : Jvm.MethodName) ({ cls := "ShoeHouse$Cases", name := "absences", desc := "(II)I" } : Jvm.MethodName)) ∈ lw_all := lw_g (lw_at lw_m4 160 rfl) rfl
theorem q972 : (Jvm.Cond.code ({ cls := "ShoeHouse$Cases", name := "absences", desc := "(II)I" } : Jvm.MethodName) prog_2_method_3_code (5 : Nat) (Option.some Jvm.ClassFile.FieldType.int)) ∈ lw_all := lw_g (lw_at lw_m4 161 rfl) rfl
theorem q973 : (Jvm.Cond.methodLink "ShoeHouse$Cases" (59 : Nat) ({ cls := "ShoeHouse$Lodger", name := "place", desc := "(I)I" } : Jvm.MethodName)) ∈ lw_all := lw_g (lw_at lw_m4 162 rfl) rfl
theorem q1794 : (Jvm.Cond.castable "ShoeHouse$Cases" "java/lang/Object") ∈ lw_tbl := lw_at lw_m8 23 rfl
theorem in_X8 : ∀ w ∈ wsX80, w ∈ lw_all := lw_in wsX80 [414, 416, 418] (by decide +kernel) (by decide +kernel)
/-! ShoeHouse$Walk -/
def RX9 : String := "ShoeHouse$Walk"
def TX9 : u_T := fun k => match k with
  | 0 => ("ShoeHouse$Walk", "n", "I", true)
  | 1 => ("ShoeHouse$Walk", "row", "[I", true)
  | 2 => ("ShoeHouse$Walk", "best", "[I", true)
  | 3 => ("ShoeHouse$Walk", "worths", "[I", true)
  | 4 => ("ShoeHouse$Walk", "most", "I", false)
  | _ => ("ShoeHouse$Walk", "this$0", "LShoeHouse;", true)
def tyX9 : Nat → FieldType := fun k => match k with
  | 0 => .int
  | 1 => .array .int
  | 2 => .array .int
  | 3 => .array .int
  | 4 => .int
  | _ => .object "ShoeHouse"
abbrev wsX90 : List Cond := u_ws RX9 TX9 6
theorem nmX9 : ∀ a, a < 6 → ∀ b, b < 6 → a ≠ b → (TX9 a).2.1 ≠ (TX9 b).2.1 := by decide +kernel
theorem tyX9_ok : ∀ k, k < 6 → parseFieldDescriptor (TX9 k).2.2.1 = some (tyX9 k) := by decide +kernel
abbrev cX9_init : ByteArray := prog_8_method_1_code
def yX9_init : MethodName := ⟨RX9, "<init>", "(LShoeHouse;III)V"⟩
abbrev cX9_go : ByteArray := prog_8_method_2_code
def yX9_go : MethodName := ⟨RX9, "go", "(I)V"⟩
abbrev cX9_looks : ByteArray := prog_8_method_3_code
def yX9_looks : MethodName := ⟨RX9, "looks", "([II)Z"⟩
theorem q118 : (Jvm.Cond.initialized "ShoeHouse$Walk") ∈ lw_all := lw_g (lw_at lw_m1 27 rfl) rfl
theorem q172 : (Jvm.Cond.fieldLinkNest "ShoeHouse$Walk" (36 : Nat) "ShoeHouse$House" "rooms" "I" "ShoeHouse") ∈ lw_tbl := lw_at lw_m1 81 rfl
theorem q198 : (Jvm.Cond.fieldLinkNest "ShoeHouse$Walk" (32 : Nat) "ShoeHouse" "house" "LShoeHouse$House;" "ShoeHouse") ∈ lw_tbl := lw_at lw_m1 107 rfl
theorem q451 : (Jvm.Cond.selects "ShoeHouse$Walk" ({ cls := "java/lang/Object", name := "getClass", desc := "()Ljava/lang/Class;" } : Jvm.MethodName) ({ cls := "java/lang/Object", name := "getClass", desc := "()Ljava/lang/Class;" } : Jvm.MethodName)) ∈ lw_all := lw_g (lw_at lw_m2 120 rfl) rfl
theorem q1023 : (Jvm.Cond.instantiable "ShoeHouse$Walk" (6 : Nat)) ∈ lw_all := lw_g (lw_at lw_m4 212 rfl) rfl
theorem q1025 : (Jvm.Cond.instanceMethod ({ cls := "ShoeHouse$Walk", name := "<init>", desc := "(LShoeHouse;III)V" } : Jvm.MethodName)) ∈ lw_all := lw_g (lw_at lw_m4 214 rfl) rfl
theorem q1026 : (Jvm.Cond.code ({ cls := "ShoeHouse$Walk", name := "<init>", desc := "(LShoeHouse;III)V" } : Jvm.MethodName) prog_8_method_1_code (7 : Nat) (Option.none : Option Jvm.ClassFile.FieldType)) ∈ lw_all := lw_g (lw_at lw_m4 215 rfl) rfl
theorem q1027 : (Jvm.Cond.methodLink "ShoeHouse$Walk" (9 : Nat) ({ cls := "java/lang/Object", name := "<init>", desc := "()V" } : Jvm.MethodName)) ∈ lw_all := lw_g (lw_at lw_m4 216 rfl) rfl
theorem q1028 : (Jvm.Cond.methodLinkNest "ShoeHouse$Walk" (41 : Nat) ({ cls := "ShoeHouse", name := "worth", desc := "(II)I" } : Jvm.MethodName) "ShoeHouse") ∈ lw_tbl := lw_at lw_m4 217 rfl
theorem q1032 : (Jvm.Cond.methodLink "ShoeHouse$Walk" (45 : Nat) ({ cls := "ShoeHouse$Walk", name := "go", desc := "(I)V" } : Jvm.MethodName)) ∈ lw_all := lw_g (lw_at lw_m4 221 rfl) rfl
theorem q1033 : (Jvm.Cond.privateMethod ({ cls := "ShoeHouse$Walk", name := "go", desc := "(I)V" } : Jvm.MethodName)) ∈ lw_tbl := lw_at lw_m4 222 rfl
theorem q1034 : (Jvm.Cond.instanceMethod ({ cls := "ShoeHouse$Walk", name := "go", desc := "(I)V" } : Jvm.MethodName)) ∈ lw_all := lw_g (lw_at lw_m4 223 rfl) rfl
theorem q1035 : (Jvm.Cond.code ({ cls := "ShoeHouse$Walk", name := "go", desc := "(I)V" } : Jvm.MethodName) prog_8_method_2_code (4 : Nat) (Option.none : Option Jvm.ClassFile.FieldType)) ∈ lw_all := lw_g (lw_at lw_m4 224 rfl) rfl
theorem q1036 : (Jvm.Cond.methodLink "ShoeHouse$Walk" (49 : Nat) ({ cls := "ShoeHouse$Walk", name := "looks", desc := "([II)Z" } : Jvm.MethodName)) ∈ lw_all := lw_g (lw_at lw_m4 225 rfl) rfl
theorem q1037 : (Jvm.Cond.privateMethod ({ cls := "ShoeHouse$Walk", name := "looks", desc := "([II)Z" } : Jvm.MethodName)) ∈ lw_tbl := lw_at lw_m4 226 rfl
theorem q1038 : (Jvm.Cond.instanceMethod ({ cls := "ShoeHouse$Walk", name := "looks", desc := "([II)Z" } : Jvm.MethodName)) ∈ lw_all := lw_g (lw_at lw_m4 227 rfl) rfl
theorem q1039 : (Jvm.Cond.code ({ cls := "ShoeHouse$Walk", name := "looks", desc := "([II)Z" } : Jvm.MethodName) prog_8_method_3_code (5 : Nat) (Option.some Jvm.ClassFile.FieldType.boolean)) ∈ lw_all := lw_g (lw_at lw_m4 228 rfl) rfl
theorem q1040 : (Jvm.Cond.methodLink "ShoeHouse$Walk" (53 : Nat) ({ cls := "java/lang/Math", name := "max", desc := "(II)I" } : Jvm.MethodName)) ∈ lw_all := lw_g (lw_at lw_m4 229 rfl) rfl
theorem q1041 : (Jvm.Cond.methodLink "ShoeHouse$Walk" (58 : Nat) ({ cls := "java/lang/Math", name := "min", desc := "(II)I" } : Jvm.MethodName)) ∈ lw_all := lw_g (lw_at lw_m4 230 rfl) rfl
theorem q1042 : (Jvm.Cond.fieldLink "ShoeHouse$Walk" (29 : Nat) "ShoeHouse$Walk" "n" "I") ∈ lw_all := lw_g (lw_at lw_m4 231 rfl) rfl
theorem q1043 : (Jvm.Cond.fieldLink "ShoeHouse$Walk" (15 : Nat) "ShoeHouse$Walk" "row" "[I") ∈ lw_all := lw_g (lw_at lw_m4 232 rfl) rfl
theorem q1044 : (Jvm.Cond.fieldLink "ShoeHouse$Walk" (19 : Nat) "ShoeHouse$Walk" "best" "[I") ∈ lw_all := lw_g (lw_at lw_m4 233 rfl) rfl
theorem q1046 : (Jvm.Cond.fieldLink "ShoeHouse$Walk" (22 : Nat) "ShoeHouse$Walk" "worths" "[I") ∈ lw_all := lw_g (lw_at lw_m4 235 rfl) rfl
theorem q1047 : (Jvm.Cond.fieldLink "ShoeHouse$Walk" (25 : Nat) "ShoeHouse$Walk" "most" "I") ∈ lw_all := lw_g (lw_at lw_m4 236 rfl) rfl
theorem q1049 : (Jvm.Cond.fieldLink "ShoeHouse$Walk" (3 : Nat) "ShoeHouse$Walk" "this$0" "LShoeHouse;") ∈ lw_all := lw_g (lw_at lw_m4 238 rfl) rfl
theorem q1050 : (Jvm.Cond.laysFinal "ShoeHouse$Walk" "ShoeHouse$Walk" "n" "I") ∈ lw_all := lw_g (lw_at lw_m4 239 rfl) rfl
theorem q1051 : (Jvm.Cond.soleField "ShoeHouse$Walk" "n") ∈ lw_all := lw_g (lw_at lw_m5 0 rfl) rfl
theorem q1052 : (Jvm.Cond.laysFinal "ShoeHouse$Walk" "ShoeHouse$Walk" "row" "[I") ∈ lw_all := lw_g (lw_at lw_m5 1 rfl) rfl
theorem q1053 : (Jvm.Cond.soleField "ShoeHouse$Walk" "row") ∈ lw_all := lw_g (lw_at lw_m5 2 rfl) rfl
theorem q1054 : (Jvm.Cond.laysFinal "ShoeHouse$Walk" "ShoeHouse$Walk" "best" "[I") ∈ lw_all := lw_g (lw_at lw_m5 3 rfl) rfl
theorem q1055 : (Jvm.Cond.soleField "ShoeHouse$Walk" "best") ∈ lw_all := lw_g (lw_at lw_m5 4 rfl) rfl
theorem q1056 : (Jvm.Cond.laysFinal "ShoeHouse$Walk" "ShoeHouse$Walk" "worths" "[I") ∈ lw_all := lw_g (lw_at lw_m5 5 rfl) rfl
theorem q1057 : (Jvm.Cond.soleField "ShoeHouse$Walk" "worths") ∈ lw_all := lw_g (lw_at lw_m5 6 rfl) rfl
theorem q1058 : (Jvm.Cond.lays "ShoeHouse$Walk" "ShoeHouse$Walk" "most" "I") ∈ lw_all := lw_g (lw_at lw_m5 7 rfl) rfl
theorem q1059 : (Jvm.Cond.soleField "ShoeHouse$Walk" "most") ∈ lw_all := lw_g (lw_at lw_m5 8 rfl) rfl
theorem q1060 : (Jvm.Cond.laysFinal "ShoeHouse$Walk" "ShoeHouse$Walk" "this$0" "LShoeHouse;") ∈ lw_all := lw_g (lw_at lw_m5 9 rfl) rfl
theorem q1061 : (Jvm.Cond.soleField "ShoeHouse$Walk" "this$0") ∈ lw_all := lw_g (lw_at lw_m5 10 rfl) rfl
theorem q1062 : (Jvm.Cond.superclass "ShoeHouse$Walk" "java/lang/Object") ∈ lw_all := lw_g (lw_at lw_m5 11 rfl) rfl
theorem q1795 : (Jvm.Cond.castable "ShoeHouse$Walk" "java/lang/Object") ∈ lw_tbl := lw_at lw_m8 24 rfl
theorem in_X9 : ∀ w ∈ wsX90, w ∈ lw_all := lw_in wsX90 [1050, 1052, 1054, 1056, 1058, 1060] (by decide +kernel) (by decide +kernel)
/-! java/util/AbstractCollection -/
def RJ0 : String := "java/util/AbstractCollection"
abbrev cJ0_init : ByteArray := prog_29_method_1_code
def yJ0_init : MethodName := ⟨RJ0, "<init>", "()V"⟩
theorem q94 : (Jvm.Cond.initialized "java/util/AbstractCollection") ∈ lw_all := lw_g (lw_at lw_m1 3 rfl) rfl
theorem q143 : (Jvm.Cond.instanceMethod ({ cls := "java/util/AbstractCollection", name := "<init>", desc := "()V" } : Jvm.MethodName)) ∈ lw_all := lw_g (lw_at lw_m1 52 rfl) rfl
theorem q144 : (Jvm.Cond.code ({ cls := "java/util/AbstractCollection", name := "<init>", desc := "()V" } : Jvm.MethodName) prog_29_method_1_code (1 : Nat) (Option.none : Option Jvm.ClassFile.FieldType)) ∈ lw_all := lw_g (lw_at lw_m1 53 rfl) rfl
theorem q145 : (Jvm.Cond.methodLink "java/util/AbstractCollection" (1 : Nat) ({ cls := "java/lang/Object", name := "<init>", desc := "()V" } : Jvm.MethodName)) ∈ lw_all := lw_g (lw_at lw_m1 54 rfl) rfl
/-! java/util/AbstractList -/
def RJ1 : String := "java/util/AbstractList"
abbrev cJ1_init : ByteArray := prog_30_method_1_code
def yJ1_init : MethodName := ⟨RJ1, "<init>", "()V"⟩
theorem q95 : (Jvm.Cond.initialized "java/util/AbstractList") ∈ lw_all := lw_g (lw_at lw_m1 4 rfl) rfl
theorem q140 : (Jvm.Cond.instanceMethod ({ cls := "java/util/AbstractList", name := "<init>", desc := "()V" } : Jvm.MethodName)) ∈ lw_all := lw_g (lw_at lw_m1 49 rfl) rfl
theorem q141 : (Jvm.Cond.code ({ cls := "java/util/AbstractList", name := "<init>", desc := "()V" } : Jvm.MethodName) prog_30_method_1_code (1 : Nat) (Option.none : Option Jvm.ClassFile.FieldType)) ∈ lw_all := lw_g (lw_at lw_m1 50 rfl) rfl
theorem q142 : (Jvm.Cond.methodLink "java/util/AbstractList" (1 : Nat) ({ cls := "java/util/AbstractCollection", name := "<init>", desc := "()V" } : Jvm.MethodName)) ∈ lw_all := lw_g (lw_at lw_m1 51 rfl) rfl
theorem q150 : (Jvm.Cond.fieldLink "java/util/AbstractList" (7 : Nat) "java/util/AbstractList" "modCount" "I") ∈ lw_all := lw_g (lw_at lw_m1 59 rfl) rfl
theorem q158 : (Jvm.Cond.soleField "java/util/AbstractList" "modCount") ∈ lw_all := lw_g (lw_at lw_m1 67 rfl) rfl
/-! jdk/internal/util/Preconditions -/
def RJ10 : String := "jdk/internal/util/Preconditions"
abbrev cJ10_checkIndex : ByteArray := prog_40_method_11_code
def yJ10_checkIndex : MethodName := ⟨RJ10, "checkIndex", "(IILjava/util/function/BiFunction;)I"⟩
theorem q106 : (Jvm.Cond.initialized "jdk/internal/util/Preconditions") ∈ lw_all := lw_g (lw_at lw_m1 15 rfl) rfl
theorem q309 : (Jvm.Cond.static ({ cls := "jdk/internal/util/Preconditions", name := "checkIndex", desc := "(IILjava/util/function/BiFunction;)I" } : Jvm.MethodName)) ∈ lw_all := lw_g (lw_at lw_m1 218 rfl) rfl
theorem q310 : (Jvm.Cond.code ({ cls := "jdk/internal/util/Preconditions", name := "checkIndex", desc := "(IILjava/util/function/BiFunction;)I" } : Jvm.MethodName) prog_40_method_11_code (3 : Nat) (Option.some Jvm.ClassFile.FieldType.int)) ∈ lw_all := lw_g (lw_at lw_m1 219 rfl) rfl
theorem q657 : (Jvm.Cond.laysStatic "jdk/internal/util/Preconditions" "SIOOBE_FORMATTER" "Ljava/util/function/BiFunction;") ∈ lw_tbl := lw_at lw_m3 86 rfl
/-! java/lang/StringUTF16 -/
def RJ11 : String := "java/lang/StringUTF16"
abbrev cJ11_charAt : ByteArray := prog_24_method_83_code
def yJ11_charAt : MethodName := ⟨RJ11, "charAt", "([BI)C"⟩
abbrev cJ11_checkIndex : ByteArray := prog_24_method_91_code
def yJ11_checkIndex : MethodName := ⟨RJ11, "checkIndex", "(I[B)V"⟩
abbrev cJ11_length : ByteArray := prog_24_method_6_code
def yJ11_length : MethodName := ⟨RJ11, "length", "([B)I"⟩
abbrev cJ11_getChar : ByteArray := prog_24_method_5_code
def yJ11_getChar : MethodName := ⟨RJ11, "getChar", "([BI)C"⟩
theorem q107 : (Jvm.Cond.initialized "java/lang/StringUTF16") ∈ lw_all := lw_g (lw_at lw_m1 16 rfl) rfl
theorem q660 : (Jvm.Cond.static ({ cls := "java/lang/StringUTF16", name := "charAt", desc := "([BI)C" } : Jvm.MethodName)) ∈ lw_all := lw_g (lw_at lw_m3 89 rfl) rfl
theorem q661 : (Jvm.Cond.code ({ cls := "java/lang/StringUTF16", name := "charAt", desc := "([BI)C" } : Jvm.MethodName) prog_24_method_83_code (2 : Nat) (Option.some Jvm.ClassFile.FieldType.char)) ∈ lw_all := lw_g (lw_at lw_m3 90 rfl) rfl
theorem q662 : (Jvm.Cond.methodLink "java/lang/StringUTF16" (67 : Nat) ({ cls := "java/lang/StringUTF16", name := "checkIndex", desc := "(I[B)V" } : Jvm.MethodName)) ∈ lw_all := lw_g (lw_at lw_m3 91 rfl) rfl
theorem q663 : (Jvm.Cond.static ({ cls := "java/lang/StringUTF16", name := "checkIndex", desc := "(I[B)V" } : Jvm.MethodName)) ∈ lw_all := lw_g (lw_at lw_m3 92 rfl) rfl
theorem q664 : (Jvm.Cond.code ({ cls := "java/lang/StringUTF16", name := "checkIndex", desc := "(I[B)V" } : Jvm.MethodName) prog_24_method_91_code (2 : Nat) (Option.none : Option Jvm.ClassFile.FieldType)) ∈ lw_all := lw_g (lw_at lw_m3 93 rfl) rfl
theorem q665 : (Jvm.Cond.methodLink "java/lang/StringUTF16" (48 : Nat) ({ cls := "java/lang/StringUTF16", name := "length", desc := "([B)I" } : Jvm.MethodName)) ∈ lw_all := lw_g (lw_at lw_m3 94 rfl) rfl
theorem q666 : (Jvm.Cond.static ({ cls := "java/lang/StringUTF16", name := "length", desc := "([B)I" } : Jvm.MethodName)) ∈ lw_all := lw_g (lw_at lw_m3 95 rfl) rfl
theorem q667 : (Jvm.Cond.code ({ cls := "java/lang/StringUTF16", name := "length", desc := "([B)I" } : Jvm.MethodName) prog_24_method_6_code (1 : Nat) (Option.some Jvm.ClassFile.FieldType.int)) ∈ lw_all := lw_g (lw_at lw_m3 96 rfl) rfl
theorem q668 : (Jvm.Cond.methodLink "java/lang/StringUTF16" (414 : Nat) ({ cls := "java/lang/String", name := "checkIndex", desc := "(II)V" } : Jvm.MethodName)) ∈ lw_all := lw_g (lw_at lw_m3 97 rfl) rfl
theorem q669 : (Jvm.Cond.methodLink "java/lang/StringUTF16" (71 : Nat) ({ cls := "java/lang/StringUTF16", name := "getChar", desc := "([BI)C" } : Jvm.MethodName)) ∈ lw_all := lw_g (lw_at lw_m3 98 rfl) rfl
theorem q670 : (Jvm.Cond.static ({ cls := "java/lang/StringUTF16", name := "getChar", desc := "([BI)C" } : Jvm.MethodName)) ∈ lw_all := lw_g (lw_at lw_m3 99 rfl) rfl
theorem q671 : (Jvm.Cond.code ({ cls := "java/lang/StringUTF16", name := "getChar", desc := "([BI)C" } : Jvm.MethodName) prog_24_method_5_code (2 : Nat) (Option.some Jvm.ClassFile.FieldType.char)) ∈ lw_all := lw_g (lw_at lw_m3 100 rfl) rfl
theorem q672 : (Jvm.Cond.fieldLink "java/lang/StringUTF16" (44 : Nat) "java/lang/StringUTF16" "$assertionsDisabled" "Z") ∈ lw_all := lw_g (lw_at lw_m3 101 rfl) rfl
theorem q673 : (Jvm.Cond.laysStatic "java/lang/StringUTF16" "$assertionsDisabled" "Z") ∈ lw_tbl := lw_at lw_m3 102 rfl
theorem q674 : (Jvm.Cond.fieldLink "java/lang/StringUTF16" (59 : Nat) "java/lang/StringUTF16" "HI_BYTE_SHIFT" "I") ∈ lw_all := lw_g (lw_at lw_m3 103 rfl) rfl
theorem q675 : (Jvm.Cond.laysStatic "java/lang/StringUTF16" "HI_BYTE_SHIFT" "I") ∈ lw_tbl := lw_at lw_m3 104 rfl
theorem q676 : (Jvm.Cond.fieldLink "java/lang/StringUTF16" (63 : Nat) "java/lang/StringUTF16" "LO_BYTE_SHIFT" "I") ∈ lw_all := lw_g (lw_at lw_m3 105 rfl) rfl
theorem q677 : (Jvm.Cond.laysStatic "java/lang/StringUTF16" "LO_BYTE_SHIFT" "I") ∈ lw_tbl := lw_at lw_m3 106 rfl
/-! java/util/Objects -/
def RJ12 : String := "java/util/Objects"
abbrev cJ12_checkIndex : ByteArray := prog_36_method_17_code
def yJ12_checkIndex : MethodName := ⟨RJ12, "checkIndex", "(II)I"⟩
theorem q109 : (Jvm.Cond.initialized "java/util/Objects") ∈ lw_all := lw_g (lw_at lw_m1 18 rfl) rfl
theorem q306 : (Jvm.Cond.static ({ cls := "java/util/Objects", name := "checkIndex", desc := "(II)I" } : Jvm.MethodName)) ∈ lw_all := lw_g (lw_at lw_m1 215 rfl) rfl
theorem q307 : (Jvm.Cond.code ({ cls := "java/util/Objects", name := "checkIndex", desc := "(II)I" } : Jvm.MethodName) prog_36_method_17_code (2 : Nat) (Option.some Jvm.ClassFile.FieldType.int)) ∈ lw_all := lw_g (lw_at lw_m1 216 rfl) rfl
theorem q308 : (Jvm.Cond.methodLink "java/util/Objects" (105 : Nat) ({ cls := "jdk/internal/util/Preconditions", name := "checkIndex", desc := "(IILjava/util/function/BiFunction;)I" } : Jvm.MethodName)) ∈ lw_all := lw_g (lw_at lw_m1 217 rfl) rfl
/-! jdk/internal/util/ArraysSupport -/
def RJ13 : String := "jdk/internal/util/ArraysSupport"
abbrev cJ13_newLength : ByteArray := prog_39_method_27_code
def yJ13_newLength : MethodName := ⟨RJ13, "newLength", "(III)I"⟩
abbrev cJ13_hugeLength : ByteArray := prog_39_method_28_code
def yJ13_hugeLength : MethodName := ⟨RJ13, "hugeLength", "(II)I"⟩
theorem q111 : (Jvm.Cond.initialized "jdk/internal/util/ArraysSupport") ∈ lw_all := lw_g (lw_at lw_m1 20 rfl) rfl
theorem q768 : (Jvm.Cond.static ({ cls := "jdk/internal/util/ArraysSupport", name := "newLength", desc := "(III)I" } : Jvm.MethodName)) ∈ lw_all := lw_g (lw_at lw_m3 197 rfl) rfl
theorem q769 : (Jvm.Cond.code ({ cls := "jdk/internal/util/ArraysSupport", name := "newLength", desc := "(III)I" } : Jvm.MethodName) prog_39_method_27_code (4 : Nat) (Option.some Jvm.ClassFile.FieldType.int)) ∈ lw_all := lw_g (lw_at lw_m3 198 rfl) rfl
theorem q770 : (Jvm.Cond.methodLink "jdk/internal/util/ArraysSupport" (194 : Nat) ({ cls := "java/lang/Math", name := "max", desc := "(II)I" } : Jvm.MethodName)) ∈ lw_all := lw_g (lw_at lw_m3 199 rfl) rfl
theorem q771 : (Jvm.Cond.constant "jdk/internal/util/ArraysSupport" (200 : Nat) (2147483639 : Int32)) ∈ lw_all := lw_g (lw_at lw_m3 200 rfl) rfl
theorem q772 : (Jvm.Cond.methodLink "jdk/internal/util/ArraysSupport" (201 : Nat) ({ cls := "jdk/internal/util/ArraysSupport", name := "hugeLength", desc := "(II)I" } : Jvm.MethodName)) ∈ lw_all := lw_g (lw_at lw_m3 201 rfl) rfl
theorem q773 : (Jvm.Cond.static ({ cls := "jdk/internal/util/ArraysSupport", name := "hugeLength", desc := "(II)I" } : Jvm.MethodName)) ∈ lw_all := lw_g (lw_at lw_m3 202 rfl) rfl
theorem q774 : (Jvm.Cond.code ({ cls := "jdk/internal/util/ArraysSupport", name := "hugeLength", desc := "(II)I" } : Jvm.MethodName) prog_39_method_28_code (3 : Nat) (Option.some Jvm.ClassFile.FieldType.int)) ∈ lw_all := lw_g (lw_at lw_m3 203 rfl) rfl
/-! java/util/Arrays -/
def RJ14 : String := "java/util/Arrays"
abbrev cJ14_copyOf : ByteArray := prog_32_method_119_code
def yJ14_copyOf : MethodName := ⟨RJ14, "copyOf", "([Ljava/lang/Object;I)[Ljava/lang/Object;"⟩
abbrev cJ14_copyOf_2 : ByteArray := prog_32_method_120_code
def yJ14_copyOf_2 : MethodName := ⟨RJ14, "copyOf", "([Ljava/lang/Object;ILjava/lang/Class;)[Ljava/lang/Object;"⟩
theorem q112 : (Jvm.Cond.initialized "java/util/Arrays") ∈ lw_all := lw_g (lw_at lw_m1 21 rfl) rfl
theorem q439 : (Jvm.Cond.static ({ cls := "java/util/Arrays", name := "copyOf", desc := "([Ljava/lang/Object;I)[Ljava/lang/Object;" } : Jvm.MethodName)) ∈ lw_all := lw_g (lw_at lw_m2 108 rfl) rfl
theorem q440 : (Jvm.Cond.code ({ cls := "java/util/Arrays", name := "copyOf", desc := "([Ljava/lang/Object;I)[Ljava/lang/Object;" } : Jvm.MethodName) prog_32_method_119_code (2 : Nat) (Option.some (Jvm.ClassFile.FieldType.array (Jvm.ClassFile.FieldType.object "java/lang/Object")))) ∈ lw_all := lw_g (lw_at lw_m2 109 rfl) rfl
theorem q441 : (Jvm.Cond.methodLink "java/util/Arrays" (86 : Nat) ({ cls := "java/lang/Object", name := "getClass", desc := "()Ljava/lang/Class;" } : Jvm.MethodName)) ∈ lw_all := lw_g (lw_at lw_m2 110 rfl) rfl
theorem q458 : (Jvm.Cond.methodLink "java/util/Arrays" (300 : Nat) ({ cls := "java/util/Arrays", name := "copyOf", desc := "([Ljava/lang/Object;ILjava/lang/Class;)[Ljava/lang/Object;" } : Jvm.MethodName)) ∈ lw_all := lw_g (lw_at lw_m2 127 rfl) rfl
theorem q459 : (Jvm.Cond.static ({ cls := "java/util/Arrays", name := "copyOf", desc := "([Ljava/lang/Object;ILjava/lang/Class;)[Ljava/lang/Object;" } : Jvm.MethodName)) ∈ lw_all := lw_g (lw_at lw_m2 128 rfl) rfl
theorem q460 : (Jvm.Cond.code ({ cls := "java/util/Arrays", name := "copyOf", desc := "([Ljava/lang/Object;ILjava/lang/Class;)[Ljava/lang/Object;" } : Jvm.MethodName) prog_32_method_120_code (4 : Nat) (Option.some (Jvm.ClassFile.FieldType.array (Jvm.ClassFile.FieldType.object "java/lang/Object")))) ∈ lw_all := lw_g (lw_at lw_m2 129 rfl) rfl
theorem q461 : (Jvm.Cond.classLink "java/util/Arrays" (110 : Nat) "[Ljava/lang/Object;") ∈ lw_all := lw_g (lw_at lw_m2 130 rfl) rfl
theorem q463 : (Jvm.Cond.classLink "java/util/Arrays" (2 : Nat) "java/lang/Object") ∈ lw_all := lw_g (lw_at lw_m2 132 rfl) rfl
theorem q464 : (Jvm.Cond.methodLink "java/util/Arrays" (304 : Nat) ({ cls := "java/lang/Math", name := "min", desc := "(II)I" } : Jvm.MethodName)) ∈ lw_all := lw_g (lw_at lw_m2 133 rfl) rfl
theorem q467 : (Jvm.Cond.methodLink "java/util/Arrays" (150 : Nat) ({ cls := "java/lang/System", name := "arraycopy", desc := "(Ljava/lang/Object;ILjava/lang/Object;II)V" } : Jvm.MethodName)) ∈ lw_all := lw_g (lw_at lw_m2 136 rfl) rfl
/-! java/lang/Integer -/
def RJ15 : String := "java/lang/Integer"
abbrev cJ15_bitCount : ByteArray := prog_18_method_49_code
def yJ15_bitCount : MethodName := ⟨RJ15, "bitCount", "(I)I"⟩
theorem q114 : (Jvm.Cond.initialized "java/lang/Integer") ∈ lw_all := lw_g (lw_at lw_m1 23 rfl) rfl
theorem q349 : (Jvm.Cond.static ({ cls := "java/lang/Integer", name := "bitCount", desc := "(I)I" } : Jvm.MethodName)) ∈ lw_all := lw_g (lw_at lw_m2 18 rfl) rfl
theorem q350 : (Jvm.Cond.code ({ cls := "java/lang/Integer", name := "bitCount", desc := "(I)I" } : Jvm.MethodName) prog_18_method_49_code (1 : Nat) (Option.some Jvm.ClassFile.FieldType.int)) ∈ lw_all := lw_g (lw_at lw_m2 19 rfl) rfl
theorem q351 : (Jvm.Cond.constant "java/lang/Integer" (265 : Nat) (1431655765 : Int32)) ∈ lw_all := lw_g (lw_at lw_m2 20 rfl) rfl
theorem q352 : (Jvm.Cond.constant "java/lang/Integer" (266 : Nat) (858993459 : Int32)) ∈ lw_all := lw_g (lw_at lw_m2 21 rfl) rfl
theorem q353 : (Jvm.Cond.constant "java/lang/Integer" (267 : Nat) (252645135 : Int32)) ∈ lw_all := lw_g (lw_at lw_m2 22 rfl) rfl
/-! java/util/NoSuchElementException -/
def RJ16 : String := "java/util/NoSuchElementException"
def TJ16 : u_T := fun k => match k with
  | 0 => ("java/lang/Throwable", "cause", "Ljava/lang/Throwable;", false)
  | 1 => ("java/lang/Throwable", "stackTrace", "[Ljava/lang/StackTraceElement;", false)
  | 2 => ("java/lang/Throwable", "suppressedExceptions", "Ljava/util/List;", false)
  | 3 => ("java/lang/Throwable", "detailMessage", "Ljava/lang/String;", false)
  | 4 => ("java/lang/Throwable", "backtrace", "Ljava/lang/Object;", false)
  | _ => ("java/lang/Throwable", "depth", "I", false)
def tyJ16 : Nat → FieldType := fun k => match k with
  | 0 => .object "java/lang/Throwable"
  | 1 => .array (.object "java/lang/StackTraceElement")
  | 2 => .object "java/util/List"
  | 3 => .object "java/lang/String"
  | 4 => .object "java/lang/Object"
  | _ => .int
abbrev wsJ160 : List Cond := u_ws RJ16 TJ16 6
theorem nmJ16 : ∀ a, a < 6 → ∀ b, b < 6 → a ≠ b → (TJ16 a).2.1 ≠ (TJ16 b).2.1 := by decide +kernel
theorem tyJ16_ok : ∀ k, k < 6 → parseFieldDescriptor (TJ16 k).2.2.1 = some (tyJ16 k) := by decide +kernel
abbrev cJ16_init : ByteArray := prog_35_method_1_code
def yJ16_init : MethodName := ⟨RJ16, "<init>", "()V"⟩
theorem q115 : (Jvm.Cond.initialized "java/util/NoSuchElementException") ∈ lw_all := lw_g (lw_at lw_m1 24 rfl) rfl
theorem q456 : (Jvm.Cond.selects "java/util/NoSuchElementException" ({ cls := "java/lang/Object", name := "getClass", desc := "()Ljava/lang/Class;" } : Jvm.MethodName) ({ cls := "java/lang/Object", name := "getClass", desc := "()Ljava/lang/Class;" } : Jvm.MethodName)) ∈ lw_all := lw_g (lw_at lw_m2 125 rfl) rfl
theorem q532 : (Jvm.Cond.selects "java/util/NoSuchElementException" ({ cls := "java/lang/Throwable", name := "fillInStackTrace", desc := "()Ljava/lang/Throwable;" } : Jvm.MethodName) ({ cls := "java/lang/Throwable", name := "fillInStackTrace", desc := "()Ljava/lang/Throwable;" } : Jvm.MethodName)) ∈ lw_all := lw_g (lw_at lw_m2 201 rfl) rfl
theorem q823 : (Jvm.Cond.instantiable "java/util/NoSuchElementException" (6 : Nat)) ∈ lw_all := lw_g (lw_at lw_m4 12 rfl) rfl
theorem q824 : (Jvm.Cond.castable "java/util/NoSuchElementException" "java/util/NoSuchElementException") ∈ lw_tbl := lw_at lw_m4 13 rfl
theorem q825 : (Jvm.Cond.selects "java/util/NoSuchElementException" ({ cls := "java/lang/Throwable", name := "fillInStackTrace", desc := "(I)Ljava/lang/Throwable;" } : Jvm.MethodName) ({ cls := "java/lang/Throwable", name := "fillInStackTrace", desc := "(I)Ljava/lang/Throwable;" } : Jvm.MethodName)) ∈ lw_all := lw_g (lw_at lw_m4 14 rfl) rfl
theorem q826 : (Jvm.Cond.lays "java/util/NoSuchElementException" "java/lang/Throwable" "cause" "Ljava/lang/Throwable;") ∈ lw_all := lw_g (lw_at lw_m4 15 rfl) rfl
theorem q827 : (Jvm.Cond.lays "java/util/NoSuchElementException" "java/lang/Throwable" "stackTrace" "[Ljava/lang/StackTraceElement;") ∈ lw_all := lw_g (lw_at lw_m4 16 rfl) rfl
theorem q828 : (Jvm.Cond.lays "java/util/NoSuchElementException" "java/lang/Throwable" "suppressedExceptions" "Ljava/util/List;") ∈ lw_all := lw_g (lw_at lw_m4 17 rfl) rfl
theorem q829 : (Jvm.Cond.lays "java/util/NoSuchElementException" "java/lang/Throwable" "detailMessage" "Ljava/lang/String;") ∈ lw_all := lw_g (lw_at lw_m4 18 rfl) rfl
theorem q830 : (Jvm.Cond.lays "java/util/NoSuchElementException" "java/lang/Throwable" "backtrace" "Ljava/lang/Object;") ∈ lw_all := lw_g (lw_at lw_m4 19 rfl) rfl
theorem q832 : (Jvm.Cond.instanceMethod ({ cls := "java/util/NoSuchElementException", name := "<init>", desc := "()V" } : Jvm.MethodName)) ∈ lw_all := lw_g (lw_at lw_m4 21 rfl) rfl
theorem q833 : (Jvm.Cond.code ({ cls := "java/util/NoSuchElementException", name := "<init>", desc := "()V" } : Jvm.MethodName) prog_35_method_1_code (1 : Nat) (Option.none : Option Jvm.ClassFile.FieldType)) ∈ lw_all := lw_g (lw_at lw_m4 22 rfl) rfl
theorem q834 : (Jvm.Cond.methodLink "java/util/NoSuchElementException" (1 : Nat) ({ cls := "java/lang/RuntimeException", name := "<init>", desc := "()V" } : Jvm.MethodName)) ∈ lw_all := lw_g (lw_at lw_m4 23 rfl) rfl
theorem q835 : (Jvm.Cond.lays "java/util/NoSuchElementException" "java/lang/Throwable" "depth" "I") ∈ lw_all := lw_g (lw_at lw_m4 24 rfl) rfl
theorem q836 : (Jvm.Cond.superclass "java/util/NoSuchElementException" "java/lang/RuntimeException") ∈ lw_all := lw_g (lw_at lw_m4 25 rfl) rfl
theorem q1792 : (Jvm.Cond.castable "java/util/NoSuchElementException" "java/lang/Object") ∈ lw_tbl := lw_at lw_m8 21 rfl
theorem in_J16 : ∀ w ∈ wsJ160, w ∈ lw_all := lw_in wsJ160 [826, 827, 828, 829, 830, 835] (by decide +kernel) (by decide +kernel)
/-! java/lang/Object -/
def RJ17 : String := "java/lang/Object"
abbrev cJ17_init : ByteArray := object_method_1_code
def yJ17_init : MethodName := ⟨RJ17, "<init>", "()V"⟩
theorem q126 : (Jvm.Cond.instanceMethod ({ cls := "java/lang/Object", name := "<init>", desc := "()V" } : Jvm.MethodName)) ∈ lw_all := lw_g (lw_at lw_m1 35 rfl) rfl
theorem q127 : (Jvm.Cond.code ({ cls := "java/lang/Object", name := "<init>", desc := "()V" } : Jvm.MethodName) object_method_1_code (1 : Nat) (Option.none : Option Jvm.ClassFile.FieldType)) ∈ lw_all := lw_g (lw_at lw_m1 36 rfl) rfl
theorem q442 : (Jvm.Cond.instanceMethod ({ cls := "java/lang/Object", name := "getClass", desc := "()Ljava/lang/Class;" } : Jvm.MethodName)) ∈ lw_all := lw_g (lw_at lw_m2 111 rfl) rfl
theorem q443 : (Jvm.Cond.sameMethod "java/lang/Object" "java/lang/Object" "getClass" "()Ljava/lang/Class;") ∈ lw_all := lw_g (lw_at lw_m2 112 rfl) rfl
theorem q457 : (Jvm.Cond.native ({ cls := "java/lang/Object", name := "getClass", desc := "()Ljava/lang/Class;" } : Jvm.MethodName)) ∈ lw_all := lw_g (lw_at lw_m2 126 rfl) rfl
theorem q471 : (Jvm.Cond.declares ({ cls := "java/lang/Object", name := "getClass", desc := "()Ljava/lang/Class;" } : Jvm.MethodName)) ∈ lw_tbl := lw_at lw_m2 140 rfl
theorem q473 : (Jvm.Cond.publicMethod ({ cls := "java/lang/Object", name := "getClass", desc := "()Ljava/lang/Class;" } : Jvm.MethodName)) ∈ lw_tbl := lw_at lw_m2 142 rfl
theorem q1783 : (Jvm.Cond.initialized "java/lang/Object") ∈ lw_all := lw_g (lw_at lw_m8 12 rfl) rfl
/-! java/util/ArrayList -/
def RJ2 : String := "java/util/ArrayList"
def TJ2 : u_T := fun k => match k with
  | 0 => ("java/util/AbstractList", "modCount", "I", false)
  | 1 => ("java/util/ArrayList", "elementData", "[Ljava/lang/Object;", false)
  | _ => ("java/util/ArrayList", "size", "I", false)
def tyJ2 : Nat → FieldType := fun k => match k with
  | 0 => .int
  | 1 => .array (.object "java/lang/Object")
  | _ => .int
abbrev wsJ20 : List Cond := u_ws RJ2 TJ2 3
theorem nmJ2 : ∀ a, a < 3 → ∀ b, b < 3 → a ≠ b → (TJ2 a).2.1 ≠ (TJ2 b).2.1 := by decide +kernel
theorem tyJ2_ok : ∀ k, k < 3 → parseFieldDescriptor (TJ2 k).2.2.1 = some (tyJ2 k) := by decide +kernel
abbrev cJ2_init : ByteArray := prog_31_method_2_code
def yJ2_init : MethodName := ⟨RJ2, "<init>", "()V"⟩
abbrev cJ2_isEmpty : ByteArray := prog_31_method_9_code
def yJ2_isEmpty : MethodName := ⟨RJ2, "isEmpty", "()Z"⟩
abbrev cJ2_size : ByteArray := prog_31_method_8_code
def yJ2_size : MethodName := ⟨RJ2, "size", "()I"⟩
abbrev cJ2_remove : ByteArray := prog_31_method_29_code
def yJ2_remove : MethodName := ⟨RJ2, "remove", "(I)Ljava/lang/Object;"⟩
abbrev cJ2_fastRemove : ByteArray := prog_31_method_39_code
def yJ2_fastRemove : MethodName := ⟨RJ2, "fastRemove", "([Ljava/lang/Object;I)V"⟩
abbrev cJ2_get : ByteArray := prog_31_method_20_code
def yJ2_get : MethodName := ⟨RJ2, "get", "(I)Ljava/lang/Object;"⟩
abbrev cJ2_elementData : ByteArray := prog_31_method_18_code
def yJ2_elementData : MethodName := ⟨RJ2, "elementData", "(I)Ljava/lang/Object;"⟩
abbrev cJ2_init_2 : ByteArray := prog_31_method_3_code
def yJ2_init_2 : MethodName := ⟨RJ2, "<init>", "(Ljava/util/Collection;)V"⟩
abbrev cJ2_toArray : ByteArray := prog_31_method_16_code
def yJ2_toArray : MethodName := ⟨RJ2, "toArray", "()[Ljava/lang/Object;"⟩
abbrev cJ2_add : ByteArray := prog_31_method_25_code
def yJ2_add : MethodName := ⟨RJ2, "add", "(Ljava/lang/Object;)Z"⟩
abbrev cJ2_add_2 : ByteArray := prog_31_method_24_code
def yJ2_add_2 : MethodName := ⟨RJ2, "add", "(Ljava/lang/Object;[Ljava/lang/Object;I)V"⟩
abbrev cJ2_grow : ByteArray := prog_31_method_7_code
def yJ2_grow : MethodName := ⟨RJ2, "grow", "()[Ljava/lang/Object;"⟩
abbrev cJ2_grow_2 : ByteArray := prog_31_method_6_code
def yJ2_grow_2 : MethodName := ⟨RJ2, "grow", "(I)[Ljava/lang/Object;"⟩
theorem q96 : (Jvm.Cond.initialized "java/util/ArrayList") ∈ lw_all := lw_g (lw_at lw_m1 5 rfl) rfl
theorem q135 : (Jvm.Cond.instantiable "java/util/ArrayList" (3 : Nat)) ∈ lw_all := lw_g (lw_at lw_m1 44 rfl) rfl
theorem q137 : (Jvm.Cond.instanceMethod ({ cls := "java/util/ArrayList", name := "<init>", desc := "()V" } : Jvm.MethodName)) ∈ lw_all := lw_g (lw_at lw_m1 46 rfl) rfl
theorem q138 : (Jvm.Cond.code ({ cls := "java/util/ArrayList", name := "<init>", desc := "()V" } : Jvm.MethodName) prog_31_method_2_code (1 : Nat) (Option.none : Option Jvm.ClassFile.FieldType)) ∈ lw_all := lw_g (lw_at lw_m1 47 rfl) rfl
theorem q139 : (Jvm.Cond.methodLink "java/util/ArrayList" (1 : Nat) ({ cls := "java/util/AbstractList", name := "<init>", desc := "()V" } : Jvm.MethodName)) ∈ lw_all := lw_g (lw_at lw_m1 48 rfl) rfl
theorem q146 : (Jvm.Cond.fieldLink "java/util/ArrayList" (39 : Nat) "java/util/ArrayList" "DEFAULTCAPACITY_EMPTY_ELEMENTDATA" "[Ljava/lang/Object;") ∈ lw_all := lw_g (lw_at lw_m1 55 rfl) rfl
theorem q147 : (Jvm.Cond.laysStatic "java/util/ArrayList" "DEFAULTCAPACITY_EMPTY_ELEMENTDATA" "[Ljava/lang/Object;") ∈ lw_tbl := lw_at lw_m1 56 rfl
theorem q148 : (Jvm.Cond.fieldLink "java/util/ArrayList" (9 : Nat) "java/util/ArrayList" "elementData" "[Ljava/lang/Object;") ∈ lw_all := lw_g (lw_at lw_m1 57 rfl) rfl
theorem q149 : (Jvm.Cond.fieldLink "java/util/ArrayList" (48 : Nat) "java/util/ArrayList" "size" "I") ∈ lw_all := lw_g (lw_at lw_m1 58 rfl) rfl
theorem q151 : (Jvm.Cond.fieldLink "java/util/ArrayList" (63 : Nat) "java/util/ArrayList" "modCount" "I") ∈ lw_all := lw_g (lw_at lw_m1 60 rfl) rfl
theorem q152 : (Jvm.Cond.sameField "java/util/ArrayList" "java/util/AbstractList" "modCount" "I") ∈ lw_all := lw_g (lw_at lw_m1 61 rfl) rfl
theorem q153 : (Jvm.Cond.lays "java/util/ArrayList" "java/util/ArrayList" "elementData" "[Ljava/lang/Object;") ∈ lw_all := lw_g (lw_at lw_m1 62 rfl) rfl
theorem q154 : (Jvm.Cond.soleField "java/util/ArrayList" "elementData") ∈ lw_all := lw_g (lw_at lw_m1 63 rfl) rfl
theorem q155 : (Jvm.Cond.lays "java/util/ArrayList" "java/util/ArrayList" "size" "I") ∈ lw_all := lw_g (lw_at lw_m1 64 rfl) rfl
theorem q156 : (Jvm.Cond.soleField "java/util/ArrayList" "size") ∈ lw_all := lw_g (lw_at lw_m1 65 rfl) rfl
theorem q157 : (Jvm.Cond.lays "java/util/ArrayList" "java/util/AbstractList" "modCount" "I") ∈ lw_all := lw_g (lw_at lw_m1 66 rfl) rfl
theorem q159 : (Jvm.Cond.superclass "java/util/ArrayList" "java/util/AbstractList") ∈ lw_all := lw_g (lw_at lw_m1 68 rfl) rfl
theorem q281 : (Jvm.Cond.castable "java/util/ArrayList" "java/util/List") ∈ lw_tbl := lw_at lw_m1 190 rfl
theorem q282 : (Jvm.Cond.selects "java/util/ArrayList" ({ cls := "java/util/List", name := "isEmpty", desc := "()Z" } : Jvm.MethodName) ({ cls := "java/util/ArrayList", name := "isEmpty", desc := "()Z" } : Jvm.MethodName)) ∈ lw_all := lw_g (lw_at lw_m1 191 rfl) rfl
theorem q283 : (Jvm.Cond.unhidden "java/util/ArrayList" "isEmpty" "()Z") ∈ lw_tbl := lw_at lw_m1 192 rfl
theorem q284 : (Jvm.Cond.instanceMethod ({ cls := "java/util/ArrayList", name := "isEmpty", desc := "()Z" } : Jvm.MethodName)) ∈ lw_all := lw_g (lw_at lw_m1 193 rfl) rfl
theorem q285 : (Jvm.Cond.publicMethod ({ cls := "java/util/ArrayList", name := "isEmpty", desc := "()Z" } : Jvm.MethodName)) ∈ lw_tbl := lw_at lw_m1 194 rfl
theorem q286 : (Jvm.Cond.code ({ cls := "java/util/ArrayList", name := "isEmpty", desc := "()Z" } : Jvm.MethodName) prog_31_method_9_code (1 : Nat) (Option.some Jvm.ClassFile.FieldType.boolean)) ∈ lw_all := lw_g (lw_at lw_m1 195 rfl) rfl
theorem q291 : (Jvm.Cond.selects "java/util/ArrayList" ({ cls := "java/util/List", name := "size", desc := "()I" } : Jvm.MethodName) ({ cls := "java/util/ArrayList", name := "size", desc := "()I" } : Jvm.MethodName)) ∈ lw_all := lw_g (lw_at lw_m1 200 rfl) rfl
theorem q292 : (Jvm.Cond.unhidden "java/util/ArrayList" "size" "()I") ∈ lw_tbl := lw_at lw_m1 201 rfl
theorem q293 : (Jvm.Cond.instanceMethod ({ cls := "java/util/ArrayList", name := "size", desc := "()I" } : Jvm.MethodName)) ∈ lw_all := lw_g (lw_at lw_m1 202 rfl) rfl
theorem q294 : (Jvm.Cond.publicMethod ({ cls := "java/util/ArrayList", name := "size", desc := "()I" } : Jvm.MethodName)) ∈ lw_tbl := lw_at lw_m1 203 rfl
theorem q295 : (Jvm.Cond.code ({ cls := "java/util/ArrayList", name := "size", desc := "()I" } : Jvm.MethodName) prog_31_method_8_code (1 : Nat) (Option.some Jvm.ClassFile.FieldType.int)) ∈ lw_all := lw_g (lw_at lw_m1 204 rfl) rfl
theorem q300 : (Jvm.Cond.selects "java/util/ArrayList" ({ cls := "java/util/List", name := "remove", desc := "(I)Ljava/lang/Object;" } : Jvm.MethodName) ({ cls := "java/util/ArrayList", name := "remove", desc := "(I)Ljava/lang/Object;" } : Jvm.MethodName)) ∈ lw_all := lw_g (lw_at lw_m1 209 rfl) rfl
theorem q301 : (Jvm.Cond.unhidden "java/util/ArrayList" "remove" "(I)Ljava/lang/Object;") ∈ lw_tbl := lw_at lw_m1 210 rfl
theorem q302 : (Jvm.Cond.instanceMethod ({ cls := "java/util/ArrayList", name := "remove", desc := "(I)Ljava/lang/Object;" } : Jvm.MethodName)) ∈ lw_all := lw_g (lw_at lw_m1 211 rfl) rfl
theorem q303 : (Jvm.Cond.publicMethod ({ cls := "java/util/ArrayList", name := "remove", desc := "(I)Ljava/lang/Object;" } : Jvm.MethodName)) ∈ lw_tbl := lw_at lw_m1 212 rfl
theorem q304 : (Jvm.Cond.code ({ cls := "java/util/ArrayList", name := "remove", desc := "(I)Ljava/lang/Object;" } : Jvm.MethodName) prog_31_method_29_code (4 : Nat) (Option.some (Jvm.ClassFile.FieldType.object "java/lang/Object"))) ∈ lw_all := lw_g (lw_at lw_m1 213 rfl) rfl
theorem q305 : (Jvm.Cond.methodLink "java/util/ArrayList" (118 : Nat) ({ cls := "java/util/Objects", name := "checkIndex", desc := "(II)I" } : Jvm.MethodName)) ∈ lw_all := lw_g (lw_at lw_m1 214 rfl) rfl
theorem q311 : (Jvm.Cond.methodLink "java/util/ArrayList" (144 : Nat) ({ cls := "java/util/ArrayList", name := "fastRemove", desc := "([Ljava/lang/Object;I)V" } : Jvm.MethodName)) ∈ lw_all := lw_g (lw_at lw_m1 220 rfl) rfl
theorem q312 : (Jvm.Cond.privateMethod ({ cls := "java/util/ArrayList", name := "fastRemove", desc := "([Ljava/lang/Object;I)V" } : Jvm.MethodName)) ∈ lw_tbl := lw_at lw_m1 221 rfl
theorem q313 : (Jvm.Cond.instanceMethod ({ cls := "java/util/ArrayList", name := "fastRemove", desc := "([Ljava/lang/Object;I)V" } : Jvm.MethodName)) ∈ lw_all := lw_g (lw_at lw_m1 222 rfl) rfl
theorem q314 : (Jvm.Cond.code ({ cls := "java/util/ArrayList", name := "fastRemove", desc := "([Ljava/lang/Object;I)V" } : Jvm.MethodName) prog_31_method_39_code (4 : Nat) (Option.none : Option Jvm.ClassFile.FieldType)) ∈ lw_all := lw_g (lw_at lw_m1 223 rfl) rfl
theorem q315 : (Jvm.Cond.methodLink "java/util/ArrayList" (112 : Nat) ({ cls := "java/lang/System", name := "arraycopy", desc := "(Ljava/lang/Object;ILjava/lang/Object;II)V" } : Jvm.MethodName)) ∈ lw_all := lw_g (lw_at lw_m1 224 rfl) rfl
theorem q334 : (Jvm.Cond.selects "java/util/ArrayList" ({ cls := "java/util/List", name := "get", desc := "(I)Ljava/lang/Object;" } : Jvm.MethodName) ({ cls := "java/util/ArrayList", name := "get", desc := "(I)Ljava/lang/Object;" } : Jvm.MethodName)) ∈ lw_all := lw_g (lw_at lw_m2 3 rfl) rfl
theorem q335 : (Jvm.Cond.unhidden "java/util/ArrayList" "get" "(I)Ljava/lang/Object;") ∈ lw_tbl := lw_at lw_m2 4 rfl
theorem q336 : (Jvm.Cond.instanceMethod ({ cls := "java/util/ArrayList", name := "get", desc := "(I)Ljava/lang/Object;" } : Jvm.MethodName)) ∈ lw_all := lw_g (lw_at lw_m2 5 rfl) rfl
theorem q337 : (Jvm.Cond.publicMethod ({ cls := "java/util/ArrayList", name := "get", desc := "(I)Ljava/lang/Object;" } : Jvm.MethodName)) ∈ lw_tbl := lw_at lw_m2 6 rfl
theorem q338 : (Jvm.Cond.code ({ cls := "java/util/ArrayList", name := "get", desc := "(I)Ljava/lang/Object;" } : Jvm.MethodName) prog_31_method_20_code (2 : Nat) (Option.some (Jvm.ClassFile.FieldType.object "java/lang/Object"))) ∈ lw_all := lw_g (lw_at lw_m2 7 rfl) rfl
theorem q339 : (Jvm.Cond.methodLink "java/util/ArrayList" (123 : Nat) ({ cls := "java/util/ArrayList", name := "elementData", desc := "(I)Ljava/lang/Object;" } : Jvm.MethodName)) ∈ lw_all := lw_g (lw_at lw_m2 8 rfl) rfl
theorem q340 : (Jvm.Cond.instanceMethod ({ cls := "java/util/ArrayList", name := "elementData", desc := "(I)Ljava/lang/Object;" } : Jvm.MethodName)) ∈ lw_all := lw_g (lw_at lw_m2 9 rfl) rfl
theorem q341 : (Jvm.Cond.selects "java/util/ArrayList" ({ cls := "java/util/ArrayList", name := "elementData", desc := "(I)Ljava/lang/Object;" } : Jvm.MethodName) ({ cls := "java/util/ArrayList", name := "elementData", desc := "(I)Ljava/lang/Object;" } : Jvm.MethodName)) ∈ lw_all := lw_g (lw_at lw_m2 10 rfl) rfl
theorem q342 : (Jvm.Cond.code ({ cls := "java/util/ArrayList", name := "elementData", desc := "(I)Ljava/lang/Object;" } : Jvm.MethodName) prog_31_method_18_code (2 : Nat) (Option.some (Jvm.ClassFile.FieldType.object "java/lang/Object"))) ∈ lw_all := lw_g (lw_at lw_m2 11 rfl) rfl
theorem q426 : (Jvm.Cond.instanceMethod ({ cls := "java/util/ArrayList", name := "<init>", desc := "(Ljava/util/Collection;)V" } : Jvm.MethodName)) ∈ lw_all := lw_g (lw_at lw_m2 95 rfl) rfl
theorem q427 : (Jvm.Cond.code ({ cls := "java/util/ArrayList", name := "<init>", desc := "(Ljava/util/Collection;)V" } : Jvm.MethodName) prog_31_method_3_code (3 : Nat) (Option.none : Option Jvm.ClassFile.FieldType)) ∈ lw_all := lw_g (lw_at lw_m2 96 rfl) rfl
theorem q428 : (Jvm.Cond.interfaceEntry "java/util/ArrayList" (42 : Nat)) ∈ lw_tbl := lw_at lw_m2 97 rfl
theorem q429 : (Jvm.Cond.methodLink "java/util/ArrayList" (42 : Nat) ({ cls := "java/util/Collection", name := "toArray", desc := "()[Ljava/lang/Object;" } : Jvm.MethodName)) ∈ lw_all := lw_g (lw_at lw_m2 98 rfl) rfl
theorem q432 : (Jvm.Cond.castable "java/util/ArrayList" "java/util/Collection") ∈ lw_tbl := lw_at lw_m2 101 rfl
theorem q433 : (Jvm.Cond.selects "java/util/ArrayList" ({ cls := "java/util/Collection", name := "toArray", desc := "()[Ljava/lang/Object;" } : Jvm.MethodName) ({ cls := "java/util/ArrayList", name := "toArray", desc := "()[Ljava/lang/Object;" } : Jvm.MethodName)) ∈ lw_all := lw_g (lw_at lw_m2 102 rfl) rfl
theorem q434 : (Jvm.Cond.unhidden "java/util/ArrayList" "toArray" "()[Ljava/lang/Object;") ∈ lw_tbl := lw_at lw_m2 103 rfl
theorem q435 : (Jvm.Cond.instanceMethod ({ cls := "java/util/ArrayList", name := "toArray", desc := "()[Ljava/lang/Object;" } : Jvm.MethodName)) ∈ lw_all := lw_g (lw_at lw_m2 104 rfl) rfl
theorem q436 : (Jvm.Cond.publicMethod ({ cls := "java/util/ArrayList", name := "toArray", desc := "()[Ljava/lang/Object;" } : Jvm.MethodName)) ∈ lw_tbl := lw_at lw_m2 105 rfl
theorem q437 : (Jvm.Cond.code ({ cls := "java/util/ArrayList", name := "toArray", desc := "()[Ljava/lang/Object;" } : Jvm.MethodName) prog_31_method_16_code (1 : Nat) (Option.some (Jvm.ClassFile.FieldType.array (Jvm.ClassFile.FieldType.object "java/lang/Object")))) ∈ lw_all := lw_g (lw_at lw_m2 106 rfl) rfl
theorem q438 : (Jvm.Cond.methodLink "java/util/ArrayList" (66 : Nat) ({ cls := "java/util/Arrays", name := "copyOf", desc := "([Ljava/lang/Object;I)[Ljava/lang/Object;" } : Jvm.MethodName)) ∈ lw_all := lw_g (lw_at lw_m2 107 rfl) rfl
theorem q455 : (Jvm.Cond.selects "java/util/ArrayList" ({ cls := "java/lang/Object", name := "getClass", desc := "()Ljava/lang/Class;" } : Jvm.MethodName) ({ cls := "java/lang/Object", name := "getClass", desc := "()Ljava/lang/Class;" } : Jvm.MethodName)) ∈ lw_all := lw_g (lw_at lw_m2 124 rfl) rfl
theorem q468 : (Jvm.Cond.interfaceEntry "java/util/ArrayList" (52 : Nat)) ∈ lw_tbl := lw_at lw_m2 137 rfl
theorem q469 : (Jvm.Cond.methodLink "java/util/ArrayList" (52 : Nat) ({ cls := "java/util/Collection", name := "getClass", desc := "()Ljava/lang/Class;" } : Jvm.MethodName)) ∈ lw_all := lw_g (lw_at lw_m2 138 rfl) rfl
theorem q472 : (Jvm.Cond.unhidden "java/util/ArrayList" "getClass" "()Ljava/lang/Class;") ∈ lw_tbl := lw_at lw_m2 141 rfl
theorem q474 : (Jvm.Cond.classLink "java/util/ArrayList" (10 : Nat) "java/util/ArrayList") ∈ lw_all := lw_g (lw_at lw_m2 143 rfl) rfl
theorem q475 : (Jvm.Cond.classLink "java/util/ArrayList" (56 : Nat) "[Ljava/lang/Object;") ∈ lw_all := lw_g (lw_at lw_m2 144 rfl) rfl
theorem q476 : (Jvm.Cond.methodLink "java/util/ArrayList" (57 : Nat) ({ cls := "java/util/Arrays", name := "copyOf", desc := "([Ljava/lang/Object;ILjava/lang/Class;)[Ljava/lang/Object;" } : Jvm.MethodName)) ∈ lw_all := lw_g (lw_at lw_m2 145 rfl) rfl
theorem q477 : (Jvm.Cond.fieldLink "java/util/ArrayList" (15 : Nat) "java/util/ArrayList" "EMPTY_ELEMENTDATA" "[Ljava/lang/Object;") ∈ lw_all := lw_g (lw_at lw_m2 146 rfl) rfl
theorem q478 : (Jvm.Cond.laysStatic "java/util/ArrayList" "EMPTY_ELEMENTDATA" "[Ljava/lang/Object;") ∈ lw_tbl := lw_at lw_m2 147 rfl
theorem q750 : (Jvm.Cond.selects "java/util/ArrayList" ({ cls := "java/util/List", name := "add", desc := "(Ljava/lang/Object;)Z" } : Jvm.MethodName) ({ cls := "java/util/ArrayList", name := "add", desc := "(Ljava/lang/Object;)Z" } : Jvm.MethodName)) ∈ lw_all := lw_g (lw_at lw_m3 179 rfl) rfl
theorem q751 : (Jvm.Cond.unhidden "java/util/ArrayList" "add" "(Ljava/lang/Object;)Z") ∈ lw_tbl := lw_at lw_m3 180 rfl
theorem q752 : (Jvm.Cond.instanceMethod ({ cls := "java/util/ArrayList", name := "add", desc := "(Ljava/lang/Object;)Z" } : Jvm.MethodName)) ∈ lw_all := lw_g (lw_at lw_m3 181 rfl) rfl
theorem q753 : (Jvm.Cond.publicMethod ({ cls := "java/util/ArrayList", name := "add", desc := "(Ljava/lang/Object;)Z" } : Jvm.MethodName)) ∈ lw_tbl := lw_at lw_m3 182 rfl
theorem q754 : (Jvm.Cond.code ({ cls := "java/util/ArrayList", name := "add", desc := "(Ljava/lang/Object;)Z" } : Jvm.MethodName) prog_31_method_25_code (2 : Nat) (Option.some Jvm.ClassFile.FieldType.boolean)) ∈ lw_all := lw_g (lw_at lw_m3 183 rfl) rfl
theorem q755 : (Jvm.Cond.methodLink "java/util/ArrayList" (131 : Nat) ({ cls := "java/util/ArrayList", name := "add", desc := "(Ljava/lang/Object;[Ljava/lang/Object;I)V" } : Jvm.MethodName)) ∈ lw_all := lw_g (lw_at lw_m3 184 rfl) rfl
theorem q756 : (Jvm.Cond.privateMethod ({ cls := "java/util/ArrayList", name := "add", desc := "(Ljava/lang/Object;[Ljava/lang/Object;I)V" } : Jvm.MethodName)) ∈ lw_tbl := lw_at lw_m3 185 rfl
theorem q757 : (Jvm.Cond.instanceMethod ({ cls := "java/util/ArrayList", name := "add", desc := "(Ljava/lang/Object;[Ljava/lang/Object;I)V" } : Jvm.MethodName)) ∈ lw_all := lw_g (lw_at lw_m3 186 rfl) rfl
theorem q758 : (Jvm.Cond.code ({ cls := "java/util/ArrayList", name := "add", desc := "(Ljava/lang/Object;[Ljava/lang/Object;I)V" } : Jvm.MethodName) prog_31_method_24_code (4 : Nat) (Option.none : Option Jvm.ClassFile.FieldType)) ∈ lw_all := lw_g (lw_at lw_m3 187 rfl) rfl
theorem q759 : (Jvm.Cond.methodLink "java/util/ArrayList" (129 : Nat) ({ cls := "java/util/ArrayList", name := "grow", desc := "()[Ljava/lang/Object;" } : Jvm.MethodName)) ∈ lw_all := lw_g (lw_at lw_m3 188 rfl) rfl
theorem q760 : (Jvm.Cond.privateMethod ({ cls := "java/util/ArrayList", name := "grow", desc := "()[Ljava/lang/Object;" } : Jvm.MethodName)) ∈ lw_tbl := lw_at lw_m3 189 rfl
theorem q761 : (Jvm.Cond.instanceMethod ({ cls := "java/util/ArrayList", name := "grow", desc := "()[Ljava/lang/Object;" } : Jvm.MethodName)) ∈ lw_all := lw_g (lw_at lw_m3 190 rfl) rfl
theorem q762 : (Jvm.Cond.code ({ cls := "java/util/ArrayList", name := "grow", desc := "()[Ljava/lang/Object;" } : Jvm.MethodName) prog_31_method_7_code (1 : Nat) (Option.some (Jvm.ClassFile.FieldType.array (Jvm.ClassFile.FieldType.object "java/lang/Object")))) ∈ lw_all := lw_g (lw_at lw_m3 191 rfl) rfl
theorem q763 : (Jvm.Cond.methodLink "java/util/ArrayList" (69 : Nat) ({ cls := "java/util/ArrayList", name := "grow", desc := "(I)[Ljava/lang/Object;" } : Jvm.MethodName)) ∈ lw_all := lw_g (lw_at lw_m3 192 rfl) rfl
theorem q764 : (Jvm.Cond.privateMethod ({ cls := "java/util/ArrayList", name := "grow", desc := "(I)[Ljava/lang/Object;" } : Jvm.MethodName)) ∈ lw_tbl := lw_at lw_m3 193 rfl
theorem q765 : (Jvm.Cond.instanceMethod ({ cls := "java/util/ArrayList", name := "grow", desc := "(I)[Ljava/lang/Object;" } : Jvm.MethodName)) ∈ lw_all := lw_g (lw_at lw_m3 194 rfl) rfl
theorem q766 : (Jvm.Cond.code ({ cls := "java/util/ArrayList", name := "grow", desc := "(I)[Ljava/lang/Object;" } : Jvm.MethodName) prog_31_method_6_code (4 : Nat) (Option.some (Jvm.ClassFile.FieldType.array (Jvm.ClassFile.FieldType.object "java/lang/Object")))) ∈ lw_all := lw_g (lw_at lw_m3 195 rfl) rfl
theorem q767 : (Jvm.Cond.methodLink "java/util/ArrayList" (73 : Nat) ({ cls := "jdk/internal/util/ArraysSupport", name := "newLength", desc := "(III)I" } : Jvm.MethodName)) ∈ lw_all := lw_g (lw_at lw_m3 196 rfl) rfl
theorem q775 : (Jvm.Cond.methodLink "java/util/ArrayList" (79 : Nat) ({ cls := "java/lang/Math", name := "max", desc := "(II)I" } : Jvm.MethodName)) ∈ lw_all := lw_g (lw_at lw_m3 204 rfl) rfl
theorem q776 : (Jvm.Cond.classLink "java/util/ArrayList" (7 : Nat) "java/lang/Object") ∈ lw_all := lw_g (lw_at lw_m3 205 rfl) rfl
theorem q1786 : (Jvm.Cond.castable "java/util/ArrayList" "java/lang/Object") ∈ lw_tbl := lw_at lw_m8 15 rfl
theorem in_J2 : ∀ w ∈ wsJ20, w ∈ lw_all := lw_in wsJ20 [157, 153, 155] (by decide +kernel) (by decide +kernel)
/-! java/lang/Throwable -/
def RJ3 : String := "java/lang/Throwable"
def TJ3 : u_T := fun k => match k with
  | 0 => ("java/lang/Throwable", "cause", "Ljava/lang/Throwable;", false)
  | 1 => ("java/lang/Throwable", "stackTrace", "[Ljava/lang/StackTraceElement;", false)
  | 2 => ("java/lang/Throwable", "suppressedExceptions", "Ljava/util/List;", false)
  | 3 => ("java/lang/Throwable", "detailMessage", "Ljava/lang/String;", false)
  | _ => ("java/lang/Throwable", "backtrace", "Ljava/lang/Object;", false)
def tyJ3 : Nat → FieldType := fun k => match k with
  | 0 => .object "java/lang/Throwable"
  | 1 => .array (.object "java/lang/StackTraceElement")
  | 2 => .object "java/util/List"
  | 3 => .object "java/lang/String"
  | _ => .object "java/lang/Object"
abbrev wsJ30 : List Cond := u_ws RJ3 TJ3 5
theorem nmJ3 : ∀ a, a < 5 → ∀ b, b < 5 → a ≠ b → (TJ3 a).2.1 ≠ (TJ3 b).2.1 := by decide +kernel
theorem tyJ3_ok : ∀ k, k < 5 → parseFieldDescriptor (TJ3 k).2.2.1 = some (tyJ3 k) := by decide +kernel
abbrev cJ3_init : ByteArray := prog_26_method_1_code
def yJ3_init : MethodName := ⟨RJ3, "<init>", "()V"⟩
abbrev cJ3_init_2 : ByteArray := prog_26_method_5_code
def yJ3_init_2 : MethodName := ⟨RJ3, "<init>", "(Ljava/lang/String;Ljava/lang/Throwable;ZZ)V"⟩
theorem q98 : (Jvm.Cond.initialized "java/lang/Throwable") ∈ lw_all := lw_g (lw_at lw_m1 7 rfl) rfl
theorem q505 : (Jvm.Cond.declares ({ cls := "java/lang/Throwable", name := "<init>", desc := "()V" } : Jvm.MethodName)) ∈ lw_tbl := lw_at lw_m2 174 rfl
theorem q506 : (Jvm.Cond.declares ({ cls := "java/lang/Throwable", name := "<init>", desc := "(Ljava/lang/String;)V" } : Jvm.MethodName)) ∈ lw_tbl := lw_at lw_m2 175 rfl
theorem q510 : (Jvm.Cond.lays "java/lang/Throwable" "java/lang/Throwable" "cause" "Ljava/lang/Throwable;") ∈ lw_all := lw_g (lw_at lw_m2 179 rfl) rfl
theorem q512 : (Jvm.Cond.lays "java/lang/Throwable" "java/lang/Throwable" "stackTrace" "[Ljava/lang/StackTraceElement;") ∈ lw_all := lw_g (lw_at lw_m2 181 rfl) rfl
theorem q514 : (Jvm.Cond.lays "java/lang/Throwable" "java/lang/Throwable" "suppressedExceptions" "Ljava/util/List;") ∈ lw_all := lw_g (lw_at lw_m2 183 rfl) rfl
theorem q516 : (Jvm.Cond.lays "java/lang/Throwable" "java/lang/Throwable" "detailMessage" "Ljava/lang/String;") ∈ lw_all := lw_g (lw_at lw_m2 185 rfl) rfl
theorem q518 : (Jvm.Cond.lays "java/lang/Throwable" "java/lang/Throwable" "backtrace" "Ljava/lang/Object;") ∈ lw_all := lw_g (lw_at lw_m2 187 rfl) rfl
theorem q519 : (Jvm.Cond.fieldLink "java/lang/Throwable" (198 : Nat) "java/lang/Throwable" "backtrace" "Ljava/lang/Object;") ∈ lw_all := lw_g (lw_at lw_m2 188 rfl) rfl
theorem q520 : (Jvm.Cond.superclass "java/lang/Throwable" "java/lang/Object") ∈ lw_all := lw_g (lw_at lw_m2 189 rfl) rfl
theorem q521 : (Jvm.Cond.instanceMethod ({ cls := "java/lang/Throwable", name := "<init>", desc := "()V" } : Jvm.MethodName)) ∈ lw_all := lw_g (lw_at lw_m2 190 rfl) rfl
theorem q522 : (Jvm.Cond.code ({ cls := "java/lang/Throwable", name := "<init>", desc := "()V" } : Jvm.MethodName) prog_26_method_1_code (1 : Nat) (Option.none : Option Jvm.ClassFile.FieldType)) ∈ lw_all := lw_g (lw_at lw_m2 191 rfl) rfl
theorem q523 : (Jvm.Cond.methodLink "java/lang/Throwable" (1 : Nat) ({ cls := "java/lang/Object", name := "<init>", desc := "()V" } : Jvm.MethodName)) ∈ lw_all := lw_g (lw_at lw_m2 192 rfl) rfl
theorem q524 : (Jvm.Cond.fieldLink "java/lang/Throwable" (13 : Nat) "java/lang/Throwable" "UNASSIGNED_STACK" "[Ljava/lang/StackTraceElement;") ∈ lw_all := lw_g (lw_at lw_m2 193 rfl) rfl
theorem q525 : (Jvm.Cond.laysStatic "java/lang/Throwable" "UNASSIGNED_STACK" "[Ljava/lang/StackTraceElement;") ∈ lw_tbl := lw_at lw_m2 194 rfl
theorem q526 : (Jvm.Cond.fieldLink "java/lang/Throwable" (20 : Nat) "java/lang/Throwable" "SUPPRESSED_SENTINEL" "Ljava/util/List;") ∈ lw_all := lw_g (lw_at lw_m2 195 rfl) rfl
theorem q527 : (Jvm.Cond.laysStatic "java/lang/Throwable" "SUPPRESSED_SENTINEL" "Ljava/util/List;") ∈ lw_tbl := lw_at lw_m2 196 rfl
theorem q528 : (Jvm.Cond.methodLink "java/lang/Throwable" (27 : Nat) ({ cls := "java/lang/Throwable", name := "fillInStackTrace", desc := "()Ljava/lang/Throwable;" } : Jvm.MethodName)) ∈ lw_all := lw_g (lw_at lw_m2 197 rfl) rfl
theorem q529 : (Jvm.Cond.instanceMethod ({ cls := "java/lang/Throwable", name := "fillInStackTrace", desc := "()Ljava/lang/Throwable;" } : Jvm.MethodName)) ∈ lw_all := lw_g (lw_at lw_m2 198 rfl) rfl
theorem q530 : (Jvm.Cond.sameMethod "java/lang/Throwable" "java/lang/Throwable" "fillInStackTrace" "()Ljava/lang/Throwable;") ∈ lw_all := lw_g (lw_at lw_m2 199 rfl) rfl
theorem q533 : (Jvm.Cond.codeSync ({ cls := "java/lang/Throwable", name := "fillInStackTrace", desc := "()Ljava/lang/Throwable;" } : Jvm.MethodName) prog_26_method_18_code (1 : Nat) (Option.some (Jvm.ClassFile.FieldType.object "java/lang/Throwable"))) ∈ lw_all := lw_g (lw_at lw_m2 202 rfl) rfl
theorem q534 : (Jvm.Cond.methodLink "java/lang/Throwable" (202 : Nat) ({ cls := "java/lang/Throwable", name := "fillInStackTrace", desc := "(I)Ljava/lang/Throwable;" } : Jvm.MethodName)) ∈ lw_all := lw_g (lw_at lw_m2 203 rfl) rfl
theorem q535 : (Jvm.Cond.privateMethod ({ cls := "java/lang/Throwable", name := "fillInStackTrace", desc := "(I)Ljava/lang/Throwable;" } : Jvm.MethodName)) ∈ lw_tbl := lw_at lw_m2 204 rfl
theorem q536 : (Jvm.Cond.instanceMethod ({ cls := "java/lang/Throwable", name := "fillInStackTrace", desc := "(I)Ljava/lang/Throwable;" } : Jvm.MethodName)) ∈ lw_all := lw_g (lw_at lw_m2 205 rfl) rfl
theorem q537 : (Jvm.Cond.instantiable "java/lang/Throwable" (6 : Nat)) ∈ lw_all := lw_g (lw_at lw_m2 206 rfl) rfl
theorem q538 : (Jvm.Cond.native ({ cls := "java/lang/Throwable", name := "fillInStackTrace", desc := "(I)Ljava/lang/Throwable;" } : Jvm.MethodName)) ∈ lw_all := lw_g (lw_at lw_m2 207 rfl) rfl
theorem q549 : (Jvm.Cond.fieldLink "java/lang/Throwable" (198 : Nat) "java/lang/Throwable" "backtrace" "Ljava/lang/Object;") ∈ lw_all := lw_g (lw_at lw_m2 218 rfl) rfl
theorem q550 : (Jvm.Cond.fieldLink "java/lang/Throwable" (31 : Nat) "java/lang/Throwable" "detailMessage" "Ljava/lang/String;") ∈ lw_all := lw_g (lw_at lw_m2 219 rfl) rfl
theorem q551 : (Jvm.Cond.fieldLink "java/lang/Throwable" (7 : Nat) "java/lang/Throwable" "cause" "Ljava/lang/Throwable;") ∈ lw_all := lw_g (lw_at lw_m2 220 rfl) rfl
theorem q552 : (Jvm.Cond.fieldLink "java/lang/Throwable" (17 : Nat) "java/lang/Throwable" "stackTrace" "[Ljava/lang/StackTraceElement;") ∈ lw_all := lw_g (lw_at lw_m2 221 rfl) rfl
theorem q553 : (Jvm.Cond.fieldLink "java/lang/Throwable" (24 : Nat) "java/lang/Throwable" "suppressedExceptions" "Ljava/util/List;") ∈ lw_all := lw_g (lw_at lw_m2 222 rfl) rfl
theorem q554 : (Jvm.Cond.soleField "java/lang/Throwable" "backtrace") ∈ lw_all := lw_g (lw_at lw_m2 223 rfl) rfl
theorem q555 : (Jvm.Cond.soleField "java/lang/Throwable" "detailMessage") ∈ lw_all := lw_g (lw_at lw_m2 224 rfl) rfl
theorem q556 : (Jvm.Cond.soleField "java/lang/Throwable" "cause") ∈ lw_all := lw_g (lw_at lw_m2 225 rfl) rfl
theorem q557 : (Jvm.Cond.soleField "java/lang/Throwable" "stackTrace") ∈ lw_all := lw_g (lw_at lw_m2 226 rfl) rfl
theorem q559 : (Jvm.Cond.soleField "java/lang/Throwable" "depth") ∈ lw_all := lw_g (lw_at lw_m2 228 rfl) rfl
theorem q560 : (Jvm.Cond.soleField "java/lang/Throwable" "suppressedExceptions") ∈ lw_all := lw_g (lw_at lw_m2 229 rfl) rfl
theorem q698 : (Jvm.Cond.instanceMethod ({ cls := "java/lang/Throwable", name := "<init>", desc := "(Ljava/lang/String;Ljava/lang/Throwable;ZZ)V" } : Jvm.MethodName)) ∈ lw_all := lw_g (lw_at lw_m3 127 rfl) rfl
theorem q699 : (Jvm.Cond.code ({ cls := "java/lang/Throwable", name := "<init>", desc := "(Ljava/lang/String;Ljava/lang/Throwable;ZZ)V" } : Jvm.MethodName) prog_26_method_5_code (5 : Nat) (Option.none : Option Jvm.ClassFile.FieldType)) ∈ lw_all := lw_g (lw_at lw_m3 128 rfl) rfl
theorem q1782 : (Jvm.Cond.sameMethod "java/lang/Throwable" "java/lang/Throwable" "fillInStackTrace" "(I)Ljava/lang/Throwable;") ∈ lw_all := lw_g (lw_at lw_m8 11 rfl) rfl
theorem q1797 : (Jvm.Cond.castable "java/lang/Throwable" "java/lang/Object") ∈ lw_tbl := lw_at lw_m8 26 rfl
theorem in_J3 : ∀ w ∈ wsJ30, w ∈ lw_all := lw_in wsJ30 [510, 512, 514, 516, 518] (by decide +kernel) (by decide +kernel)
/-! java/lang/Exception -/
def RJ4 : String := "java/lang/Exception"
abbrev cJ4_init : ByteArray := prog_16_method_1_code
def yJ4_init : MethodName := ⟨RJ4, "<init>", "()V"⟩
abbrev cJ4_init_2 : ByteArray := prog_16_method_5_code
def yJ4_init_2 : MethodName := ⟨RJ4, "<init>", "(Ljava/lang/String;Ljava/lang/Throwable;ZZ)V"⟩
theorem q99 : (Jvm.Cond.initialized "java/lang/Exception") ∈ lw_all := lw_g (lw_at lw_m1 8 rfl) rfl
theorem q503 : (Jvm.Cond.declares ({ cls := "java/lang/Exception", name := "<init>", desc := "()V" } : Jvm.MethodName)) ∈ lw_tbl := lw_at lw_m2 172 rfl
theorem q504 : (Jvm.Cond.declares ({ cls := "java/lang/Exception", name := "<init>", desc := "(Ljava/lang/String;)V" } : Jvm.MethodName)) ∈ lw_tbl := lw_at lw_m2 173 rfl
theorem q546 : (Jvm.Cond.instanceMethod ({ cls := "java/lang/Exception", name := "<init>", desc := "()V" } : Jvm.MethodName)) ∈ lw_all := lw_g (lw_at lw_m2 215 rfl) rfl
theorem q547 : (Jvm.Cond.code ({ cls := "java/lang/Exception", name := "<init>", desc := "()V" } : Jvm.MethodName) prog_16_method_1_code (1 : Nat) (Option.none : Option Jvm.ClassFile.FieldType)) ∈ lw_all := lw_g (lw_at lw_m2 216 rfl) rfl
theorem q548 : (Jvm.Cond.methodLink "java/lang/Exception" (1 : Nat) ({ cls := "java/lang/Throwable", name := "<init>", desc := "()V" } : Jvm.MethodName)) ∈ lw_all := lw_g (lw_at lw_m2 217 rfl) rfl
theorem q695 : (Jvm.Cond.instanceMethod ({ cls := "java/lang/Exception", name := "<init>", desc := "(Ljava/lang/String;Ljava/lang/Throwable;ZZ)V" } : Jvm.MethodName)) ∈ lw_all := lw_g (lw_at lw_m3 124 rfl) rfl
theorem q696 : (Jvm.Cond.code ({ cls := "java/lang/Exception", name := "<init>", desc := "(Ljava/lang/String;Ljava/lang/Throwable;ZZ)V" } : Jvm.MethodName) prog_16_method_5_code (5 : Nat) (Option.none : Option Jvm.ClassFile.FieldType)) ∈ lw_all := lw_g (lw_at lw_m3 125 rfl) rfl
theorem q697 : (Jvm.Cond.methodLink "java/lang/Exception" (16 : Nat) ({ cls := "java/lang/Throwable", name := "<init>", desc := "(Ljava/lang/String;Ljava/lang/Throwable;ZZ)V" } : Jvm.MethodName)) ∈ lw_all := lw_g (lw_at lw_m3 126 rfl) rfl
/-! java/lang/RuntimeException -/
def RJ5 : String := "java/lang/RuntimeException"
abbrev cJ5_init : ByteArray := prog_21_method_1_code
def yJ5_init : MethodName := ⟨RJ5, "<init>", "()V"⟩
theorem q100 : (Jvm.Cond.initialized "java/lang/RuntimeException") ∈ lw_all := lw_g (lw_at lw_m1 9 rfl) rfl
theorem q501 : (Jvm.Cond.declares ({ cls := "java/lang/RuntimeException", name := "<init>", desc := "()V" } : Jvm.MethodName)) ∈ lw_tbl := lw_at lw_m2 170 rfl
theorem q502 : (Jvm.Cond.declares ({ cls := "java/lang/RuntimeException", name := "<init>", desc := "(Ljava/lang/String;)V" } : Jvm.MethodName)) ∈ lw_tbl := lw_at lw_m2 171 rfl
theorem q543 : (Jvm.Cond.instanceMethod ({ cls := "java/lang/RuntimeException", name := "<init>", desc := "()V" } : Jvm.MethodName)) ∈ lw_all := lw_g (lw_at lw_m2 212 rfl) rfl
theorem q544 : (Jvm.Cond.code ({ cls := "java/lang/RuntimeException", name := "<init>", desc := "()V" } : Jvm.MethodName) prog_21_method_1_code (1 : Nat) (Option.none : Option Jvm.ClassFile.FieldType)) ∈ lw_all := lw_g (lw_at lw_m2 213 rfl) rfl
theorem q545 : (Jvm.Cond.methodLink "java/lang/RuntimeException" (1 : Nat) ({ cls := "java/lang/Exception", name := "<init>", desc := "()V" } : Jvm.MethodName)) ∈ lw_all := lw_g (lw_at lw_m2 214 rfl) rfl
/-! java/lang/IllegalArgumentException -/
def RJ6 : String := "java/lang/IllegalArgumentException"
def TJ6 : u_T := fun k => match k with
  | 0 => ("java/lang/Throwable", "cause", "Ljava/lang/Throwable;", false)
  | 1 => ("java/lang/Throwable", "stackTrace", "[Ljava/lang/StackTraceElement;", false)
  | 2 => ("java/lang/Throwable", "suppressedExceptions", "Ljava/util/List;", false)
  | 3 => ("java/lang/Throwable", "detailMessage", "Ljava/lang/String;", false)
  | 4 => ("java/lang/Throwable", "backtrace", "Ljava/lang/Object;", false)
  | _ => ("java/lang/Throwable", "depth", "I", false)
def tyJ6 : Nat → FieldType := fun k => match k with
  | 0 => .object "java/lang/Throwable"
  | 1 => .array (.object "java/lang/StackTraceElement")
  | 2 => .object "java/util/List"
  | 3 => .object "java/lang/String"
  | 4 => .object "java/lang/Object"
  | _ => .int
abbrev wsJ60 : List Cond := u_ws RJ6 TJ6 6
theorem nmJ6 : ∀ a, a < 6 → ∀ b, b < 6 → a ≠ b → (TJ6 a).2.1 ≠ (TJ6 b).2.1 := by decide +kernel
theorem tyJ6_ok : ∀ k, k < 6 → parseFieldDescriptor (TJ6 k).2.2.1 = some (tyJ6 k) := by decide +kernel
abbrev cJ6_init : ByteArray := prog_17_method_1_code
def yJ6_init : MethodName := ⟨RJ6, "<init>", "()V"⟩
theorem q101 : (Jvm.Cond.initialized "java/lang/IllegalArgumentException") ∈ lw_all := lw_g (lw_at lw_m1 10 rfl) rfl
theorem q454 : (Jvm.Cond.selects "java/lang/IllegalArgumentException" ({ cls := "java/lang/Object", name := "getClass", desc := "()Ljava/lang/Class;" } : Jvm.MethodName) ({ cls := "java/lang/Object", name := "getClass", desc := "()Ljava/lang/Class;" } : Jvm.MethodName)) ∈ lw_all := lw_g (lw_at lw_m2 123 rfl) rfl
theorem q499 : (Jvm.Cond.instantiable "java/lang/IllegalArgumentException" (6 : Nat)) ∈ lw_all := lw_g (lw_at lw_m2 168 rfl) rfl
theorem q500 : (Jvm.Cond.castable "java/lang/IllegalArgumentException" "java/lang/IllegalArgumentException") ∈ lw_tbl := lw_at lw_m2 169 rfl
theorem q507 : (Jvm.Cond.selects "java/lang/IllegalArgumentException" ({ cls := "java/lang/Throwable", name := "fillInStackTrace", desc := "(I)Ljava/lang/Throwable;" } : Jvm.MethodName) ({ cls := "java/lang/Throwable", name := "fillInStackTrace", desc := "(I)Ljava/lang/Throwable;" } : Jvm.MethodName)) ∈ lw_all := lw_g (lw_at lw_m2 176 rfl) rfl
theorem q508 : (Jvm.Cond.selects "java/lang/IllegalArgumentException" ({ cls := "java/lang/Throwable", name := "fillInStackTrace", desc := "()Ljava/lang/Throwable;" } : Jvm.MethodName) ({ cls := "java/lang/Throwable", name := "fillInStackTrace", desc := "()Ljava/lang/Throwable;" } : Jvm.MethodName)) ∈ lw_all := lw_g (lw_at lw_m2 177 rfl) rfl
theorem q509 : (Jvm.Cond.lays "java/lang/IllegalArgumentException" "java/lang/Throwable" "cause" "Ljava/lang/Throwable;") ∈ lw_all := lw_g (lw_at lw_m2 178 rfl) rfl
theorem q511 : (Jvm.Cond.lays "java/lang/IllegalArgumentException" "java/lang/Throwable" "stackTrace" "[Ljava/lang/StackTraceElement;") ∈ lw_all := lw_g (lw_at lw_m2 180 rfl) rfl
theorem q513 : (Jvm.Cond.lays "java/lang/IllegalArgumentException" "java/lang/Throwable" "suppressedExceptions" "Ljava/util/List;") ∈ lw_all := lw_g (lw_at lw_m2 182 rfl) rfl
theorem q515 : (Jvm.Cond.lays "java/lang/IllegalArgumentException" "java/lang/Throwable" "detailMessage" "Ljava/lang/String;") ∈ lw_all := lw_g (lw_at lw_m2 184 rfl) rfl
theorem q517 : (Jvm.Cond.lays "java/lang/IllegalArgumentException" "java/lang/Throwable" "backtrace" "Ljava/lang/Object;") ∈ lw_all := lw_g (lw_at lw_m2 186 rfl) rfl
theorem q540 : (Jvm.Cond.instanceMethod ({ cls := "java/lang/IllegalArgumentException", name := "<init>", desc := "()V" } : Jvm.MethodName)) ∈ lw_all := lw_g (lw_at lw_m2 209 rfl) rfl
theorem q541 : (Jvm.Cond.code ({ cls := "java/lang/IllegalArgumentException", name := "<init>", desc := "()V" } : Jvm.MethodName) prog_17_method_1_code (1 : Nat) (Option.none : Option Jvm.ClassFile.FieldType)) ∈ lw_all := lw_g (lw_at lw_m2 210 rfl) rfl
theorem q542 : (Jvm.Cond.methodLink "java/lang/IllegalArgumentException" (1 : Nat) ({ cls := "java/lang/RuntimeException", name := "<init>", desc := "()V" } : Jvm.MethodName)) ∈ lw_all := lw_g (lw_at lw_m2 211 rfl) rfl
theorem q558 : (Jvm.Cond.lays "java/lang/IllegalArgumentException" "java/lang/Throwable" "depth" "I") ∈ lw_all := lw_g (lw_at lw_m2 227 rfl) rfl
theorem q561 : (Jvm.Cond.superclass "java/lang/IllegalArgumentException" "java/lang/RuntimeException") ∈ lw_all := lw_g (lw_at lw_m2 230 rfl) rfl
theorem q1788 : (Jvm.Cond.castable "java/lang/IllegalArgumentException" "java/lang/Object") ∈ lw_tbl := lw_at lw_m8 17 rfl
theorem in_J6 : ∀ w ∈ wsJ60, w ∈ lw_all := lw_in wsJ60 [509, 511, 513, 515, 517, 558] (by decide +kernel) (by decide +kernel)
/-! java/lang/Math -/
def RJ7 : String := "java/lang/Math"
abbrev cJ7_max : ByteArray := prog_20_method_65_code
def yJ7_max : MethodName := ⟨RJ7, "max", "(II)I"⟩
abbrev cJ7_min : ByteArray := prog_20_method_69_code
def yJ7_min : MethodName := ⟨RJ7, "min", "(II)I"⟩
abbrev cJ7_abs : ByteArray := prog_20_method_59_code
def yJ7_abs : MethodName := ⟨RJ7, "abs", "(I)I"⟩
theorem q103 : (Jvm.Cond.initialized "java/lang/Math") ∈ lw_all := lw_g (lw_at lw_m1 12 rfl) rfl
theorem q355 : (Jvm.Cond.static ({ cls := "java/lang/Math", name := "max", desc := "(II)I" } : Jvm.MethodName)) ∈ lw_all := lw_g (lw_at lw_m2 24 rfl) rfl
theorem q356 : (Jvm.Cond.code ({ cls := "java/lang/Math", name := "max", desc := "(II)I" } : Jvm.MethodName) prog_20_method_65_code (2 : Nat) (Option.some Jvm.ClassFile.FieldType.int)) ∈ lw_all := lw_g (lw_at lw_m2 25 rfl) rfl
theorem q465 : (Jvm.Cond.static ({ cls := "java/lang/Math", name := "min", desc := "(II)I" } : Jvm.MethodName)) ∈ lw_all := lw_g (lw_at lw_m2 134 rfl) rfl
theorem q466 : (Jvm.Cond.code ({ cls := "java/lang/Math", name := "min", desc := "(II)I" } : Jvm.MethodName) prog_20_method_69_code (2 : Nat) (Option.some Jvm.ClassFile.FieldType.int)) ∈ lw_all := lw_g (lw_at lw_m2 135 rfl) rfl
theorem q1184 : (Jvm.Cond.static ({ cls := "java/lang/Math", name := "abs", desc := "(I)I" } : Jvm.MethodName)) ∈ lw_all := lw_g (lw_at lw_m5 133 rfl) rfl
theorem q1185 : (Jvm.Cond.code ({ cls := "java/lang/Math", name := "abs", desc := "(I)I" } : Jvm.MethodName) prog_20_method_59_code (1 : Nat) (Option.some Jvm.ClassFile.FieldType.int)) ∈ lw_all := lw_g (lw_at lw_m5 134 rfl) rfl
/-! java/lang/String -/
def RJ8 : String := "java/lang/String"
abbrev cJ8_length : ByteArray := prog_22_method_54_code
def yJ8_length : MethodName := ⟨RJ8, "length", "()I"⟩
abbrev cJ8_coder : ByteArray := prog_22_method_152_code
def yJ8_coder : MethodName := ⟨RJ8, "coder", "()B"⟩
abbrev cJ8_charAt : ByteArray := prog_22_method_56_code
def yJ8_charAt : MethodName := ⟨RJ8, "charAt", "(I)C"⟩
abbrev cJ8_isLatin1 : ByteArray := prog_22_method_154_code
def yJ8_isLatin1 : MethodName := ⟨RJ8, "isLatin1", "()Z"⟩
abbrev cJ8_checkIndex : ByteArray := prog_22_method_155_code
def yJ8_checkIndex : MethodName := ⟨RJ8, "checkIndex", "(II)V"⟩
theorem q104 : (Jvm.Cond.initialized "java/lang/String") ∈ lw_all := lw_g (lw_at lw_m1 13 rfl) rfl
theorem q633 : (Jvm.Cond.instanceMethod ({ cls := "java/lang/String", name := "length", desc := "()I" } : Jvm.MethodName)) ∈ lw_all := lw_g (lw_at lw_m3 62 rfl) rfl
theorem q634 : (Jvm.Cond.selects "java/lang/String" ({ cls := "java/lang/String", name := "length", desc := "()I" } : Jvm.MethodName) ({ cls := "java/lang/String", name := "length", desc := "()I" } : Jvm.MethodName)) ∈ lw_all := lw_g (lw_at lw_m3 63 rfl) rfl
theorem q635 : (Jvm.Cond.code ({ cls := "java/lang/String", name := "length", desc := "()I" } : Jvm.MethodName) prog_22_method_54_code (1 : Nat) (Option.some Jvm.ClassFile.FieldType.int)) ∈ lw_all := lw_g (lw_at lw_m3 64 rfl) rfl
theorem q636 : (Jvm.Cond.methodLink "java/lang/String" (335 : Nat) ({ cls := "java/lang/String", name := "coder", desc := "()B" } : Jvm.MethodName)) ∈ lw_all := lw_g (lw_at lw_m3 65 rfl) rfl
theorem q637 : (Jvm.Cond.instanceMethod ({ cls := "java/lang/String", name := "coder", desc := "()B" } : Jvm.MethodName)) ∈ lw_all := lw_g (lw_at lw_m3 66 rfl) rfl
theorem q638 : (Jvm.Cond.selects "java/lang/String" ({ cls := "java/lang/String", name := "coder", desc := "()B" } : Jvm.MethodName) ({ cls := "java/lang/String", name := "coder", desc := "()B" } : Jvm.MethodName)) ∈ lw_all := lw_g (lw_at lw_m3 67 rfl) rfl
theorem q639 : (Jvm.Cond.code ({ cls := "java/lang/String", name := "coder", desc := "()B" } : Jvm.MethodName) prog_22_method_152_code (1 : Nat) (Option.some Jvm.ClassFile.FieldType.byte)) ∈ lw_all := lw_g (lw_at lw_m3 68 rfl) rfl
theorem q640 : (Jvm.Cond.fieldLink "java/lang/String" (38 : Nat) "java/lang/String" "COMPACT_STRINGS" "Z") ∈ lw_all := lw_g (lw_at lw_m3 69 rfl) rfl
theorem q641 : (Jvm.Cond.laysStatic "java/lang/String" "COMPACT_STRINGS" "Z") ∈ lw_tbl := lw_at lw_m3 70 rfl
theorem q643 : (Jvm.Cond.instanceMethod ({ cls := "java/lang/String", name := "charAt", desc := "(I)C" } : Jvm.MethodName)) ∈ lw_all := lw_g (lw_at lw_m3 72 rfl) rfl
theorem q644 : (Jvm.Cond.selects "java/lang/String" ({ cls := "java/lang/String", name := "charAt", desc := "(I)C" } : Jvm.MethodName) ({ cls := "java/lang/String", name := "charAt", desc := "(I)C" } : Jvm.MethodName)) ∈ lw_all := lw_g (lw_at lw_m3 73 rfl) rfl
theorem q645 : (Jvm.Cond.code ({ cls := "java/lang/String", name := "charAt", desc := "(I)C" } : Jvm.MethodName) prog_22_method_56_code (2 : Nat) (Option.some Jvm.ClassFile.FieldType.char)) ∈ lw_all := lw_g (lw_at lw_m3 74 rfl) rfl
theorem q646 : (Jvm.Cond.methodLink "java/lang/String" (492 : Nat) ({ cls := "java/lang/String", name := "isLatin1", desc := "()Z" } : Jvm.MethodName)) ∈ lw_all := lw_g (lw_at lw_m3 75 rfl) rfl
theorem q647 : (Jvm.Cond.instanceMethod ({ cls := "java/lang/String", name := "isLatin1", desc := "()Z" } : Jvm.MethodName)) ∈ lw_all := lw_g (lw_at lw_m3 76 rfl) rfl
theorem q648 : (Jvm.Cond.selects "java/lang/String" ({ cls := "java/lang/String", name := "isLatin1", desc := "()Z" } : Jvm.MethodName) ({ cls := "java/lang/String", name := "isLatin1", desc := "()Z" } : Jvm.MethodName)) ∈ lw_all := lw_g (lw_at lw_m3 77 rfl) rfl
theorem q649 : (Jvm.Cond.code ({ cls := "java/lang/String", name := "isLatin1", desc := "()Z" } : Jvm.MethodName) prog_22_method_154_code (1 : Nat) (Option.some Jvm.ClassFile.FieldType.boolean)) ∈ lw_all := lw_g (lw_at lw_m3 78 rfl) rfl
theorem q650 : (Jvm.Cond.methodLink "java/lang/String" (495 : Nat) ({ cls := "java/lang/StringLatin1", name := "charAt", desc := "([BI)C" } : Jvm.MethodName)) ∈ lw_all := lw_g (lw_at lw_m3 79 rfl) rfl
theorem q654 : (Jvm.Cond.static ({ cls := "java/lang/String", name := "checkIndex", desc := "(II)V" } : Jvm.MethodName)) ∈ lw_all := lw_g (lw_at lw_m3 83 rfl) rfl
theorem q655 : (Jvm.Cond.code ({ cls := "java/lang/String", name := "checkIndex", desc := "(II)V" } : Jvm.MethodName) prog_22_method_155_code (2 : Nat) (Option.none : Option Jvm.ClassFile.FieldType)) ∈ lw_all := lw_g (lw_at lw_m3 84 rfl) rfl
theorem q656 : (Jvm.Cond.fieldLink "java/lang/String" (1053 : Nat) "jdk/internal/util/Preconditions" "SIOOBE_FORMATTER" "Ljava/util/function/BiFunction;") ∈ lw_all := lw_g (lw_at lw_m3 85 rfl) rfl
theorem q658 : (Jvm.Cond.methodLink "java/lang/String" (1059 : Nat) ({ cls := "jdk/internal/util/Preconditions", name := "checkIndex", desc := "(IILjava/util/function/BiFunction;)I" } : Jvm.MethodName)) ∈ lw_all := lw_g (lw_at lw_m3 87 rfl) rfl
theorem q659 : (Jvm.Cond.methodLink "java/lang/String" (498 : Nat) ({ cls := "java/lang/StringUTF16", name := "charAt", desc := "([BI)C" } : Jvm.MethodName)) ∈ lw_all := lw_g (lw_at lw_m3 88 rfl) rfl
theorem q1798 : (Jvm.Cond.castable "java/lang/String" "java/lang/Object") ∈ lw_tbl := lw_at lw_m8 27 rfl
theorem q1807 : (Jvm.Cond.fieldLink "java/lang/String" (9 : Nat) "java/lang/String" "value" "[B") ∈ lw_all := lw_g (lw_at lw_m8 36 rfl) rfl
theorem q1808 : (Jvm.Cond.fieldLink "java/lang/String" (15 : Nat) "java/lang/String" "coder" "B") ∈ lw_all := lw_g (lw_at lw_m8 37 rfl) rfl
/-! java/lang/StringLatin1 -/
def RJ9 : String := "java/lang/StringLatin1"
abbrev cJ9_charAt : ByteArray := prog_23_method_2_code
def yJ9_charAt : MethodName := ⟨RJ9, "charAt", "([BI)C"⟩
theorem q105 : (Jvm.Cond.initialized "java/lang/StringLatin1") ∈ lw_all := lw_g (lw_at lw_m1 14 rfl) rfl
theorem q651 : (Jvm.Cond.static ({ cls := "java/lang/StringLatin1", name := "charAt", desc := "([BI)C" } : Jvm.MethodName)) ∈ lw_all := lw_g (lw_at lw_m3 80 rfl) rfl
theorem q652 : (Jvm.Cond.code ({ cls := "java/lang/StringLatin1", name := "charAt", desc := "([BI)C" } : Jvm.MethodName) prog_23_method_2_code (2 : Nat) (Option.some Jvm.ClassFile.FieldType.char)) ∈ lw_all := lw_g (lw_at lw_m3 81 rfl) rfl
theorem q653 : (Jvm.Cond.methodLink "java/lang/StringLatin1" (9 : Nat) ({ cls := "java/lang/String", name := "checkIndex", desc := "(II)V" } : Jvm.MethodName)) ∈ lw_all := lw_g (lw_at lw_m3 82 rfl) rfl
theorem q1802 : (Jvm.Cond.castable "[B" "java/lang/Object") ∈ lw_tbl := lw_at lw_m8 31 rfl
theorem q1801 : (Jvm.Cond.castable "[I" "java/lang/Object") ∈ lw_tbl := lw_at lw_m8 30 rfl
theorem q1806 : (Jvm.Cond.castable "[J" "java/lang/Object") ∈ lw_tbl := lw_at lw_m8 35 rfl
theorem q1799 : (Jvm.Cond.sameMethod "[Ljava/lang/Object;" "java/lang/Object" "getClass" "()Ljava/lang/Class;") ∈ lw_all := lw_g (lw_at lw_m8 28 rfl) rfl
theorem q1800 : (Jvm.Cond.selects "[Ljava/lang/Object;" ({ cls := "java/lang/Object", name := "getClass", desc := "()Ljava/lang/Class;" } : Jvm.MethodName) ({ cls := "java/lang/Object", name := "getClass", desc := "()Ljava/lang/Class;" } : Jvm.MethodName)) ∈ lw_all := lw_g (lw_at lw_m8 29 rfl) rfl
theorem q1804 : (Jvm.Cond.castable "[Ljava/lang/Object;" "java/lang/Object") ∈ lw_tbl := lw_at lw_m8 33 rfl
theorem q1805 : (Jvm.Cond.castable "[Z" "java/lang/Object") ∈ lw_tbl := lw_at lw_m8 34 rfl
theorem q1803 : (Jvm.Cond.castable "[[I" "java/lang/Object") ∈ lw_tbl := lw_at lw_m8 32 rfl
theorem q113 : (Jvm.Cond.initialized "java/lang/System") ∈ lw_all := lw_g (lw_at lw_m1 22 rfl) rfl
theorem q316 : (Jvm.Cond.static ({ cls := "java/lang/System", name := "arraycopy", desc := "(Ljava/lang/Object;ILjava/lang/Object;II)V" } : Jvm.MethodName)) ∈ lw_all := lw_g (lw_at lw_m1 225 rfl) rfl
theorem q317 : (Jvm.Cond.native ({ cls := "java/lang/System", name := "arraycopy", desc := "(Ljava/lang/Object;ILjava/lang/Object;II)V" } : Jvm.MethodName)) ∈ lw_all := lw_g (lw_at lw_m1 226 rfl) rfl
theorem q430 : (Jvm.Cond.interfaceMethod "java/util/Collection" "java/util/Collection" "toArray" "()[Ljava/lang/Object;") ∈ lw_tbl := lw_at lw_m2 99 rfl
theorem q431 : (Jvm.Cond.declares ({ cls := "java/util/Collection", name := "toArray", desc := "()[Ljava/lang/Object;" } : Jvm.MethodName)) ∈ lw_tbl := lw_at lw_m2 100 rfl
theorem q470 : (Jvm.Cond.interfaceMethod "java/util/Collection" "java/lang/Object" "getClass" "()Ljava/lang/Class;") ∈ lw_tbl := lw_at lw_m2 139 rfl
theorem q279 : (Jvm.Cond.interfaceMethod "java/util/List" "java/util/List" "isEmpty" "()Z") ∈ lw_tbl := lw_at lw_m1 188 rfl
theorem q280 : (Jvm.Cond.declares ({ cls := "java/util/List", name := "isEmpty", desc := "()Z" } : Jvm.MethodName)) ∈ lw_tbl := lw_at lw_m1 189 rfl
theorem q289 : (Jvm.Cond.interfaceMethod "java/util/List" "java/util/List" "size" "()I") ∈ lw_tbl := lw_at lw_m1 198 rfl
theorem q290 : (Jvm.Cond.declares ({ cls := "java/util/List", name := "size", desc := "()I" } : Jvm.MethodName)) ∈ lw_tbl := lw_at lw_m1 199 rfl
theorem q298 : (Jvm.Cond.interfaceMethod "java/util/List" "java/util/List" "remove" "(I)Ljava/lang/Object;") ∈ lw_tbl := lw_at lw_m1 207 rfl
theorem q299 : (Jvm.Cond.declares ({ cls := "java/util/List", name := "remove", desc := "(I)Ljava/lang/Object;" } : Jvm.MethodName)) ∈ lw_tbl := lw_at lw_m1 208 rfl
theorem q332 : (Jvm.Cond.interfaceMethod "java/util/List" "java/util/List" "get" "(I)Ljava/lang/Object;") ∈ lw_tbl := lw_at lw_m2 1 rfl
theorem q333 : (Jvm.Cond.declares ({ cls := "java/util/List", name := "get", desc := "(I)Ljava/lang/Object;" } : Jvm.MethodName)) ∈ lw_tbl := lw_at lw_m2 2 rfl
theorem q748 : (Jvm.Cond.interfaceMethod "java/util/List" "java/util/List" "add" "(Ljava/lang/Object;)Z") ∈ lw_tbl := lw_at lw_m3 177 rfl
theorem q749 : (Jvm.Cond.declares ({ cls := "java/util/List", name := "add", desc := "(Ljava/lang/Object;)Z" } : Jvm.MethodName)) ∈ lw_tbl := lw_at lw_m3 178 rfl
theorem q195 : (Jvm.Cond.arrayClass Jvm.ClassFile.FieldType.int) ∈ lw_all := lw_g (lw_at lw_m1 104 rfl) rfl
theorem q264 : (Jvm.Cond.arrayClass Jvm.ClassFile.FieldType.byte) ∈ lw_all := lw_g (lw_at lw_m1 173 rfl) rfl
theorem q379 : (Jvm.Cond.arrayOver (Jvm.ClassFile.FieldType.array Jvm.ClassFile.FieldType.int)) ∈ lw_tbl := lw_at lw_m2 48 rfl
theorem q462 : (Jvm.Cond.arrayOver (Jvm.ClassFile.FieldType.object "java/lang/Object")) ∈ lw_tbl := lw_at lw_m2 131 rfl
theorem q1064 : (Jvm.Cond.arrayClass Jvm.ClassFile.FieldType.boolean) ∈ lw_all := lw_g (lw_at lw_m5 13 rfl) rfl
theorem q1781 : (Jvm.Cond.arrayClass Jvm.ClassFile.FieldType.long) ∈ lw_all := lw_g (lw_at lw_m8 10 rfl) rfl
/-! the law's own entry -/
abbrev cL_law : ByteArray := code
