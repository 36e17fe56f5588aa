/-! DECODE ROWS BY BYTES: one lemma an opcode; a method's code is cut into short pieces once, and a row reads its own piece alone. -/
set_option maxRecDepth 100000
/-- the code has just these bytes from pc on -/
def DkAt (code : ByteArray) (pc : Nat) (bs : List UInt8) : Prop := ∀ (j : Nat) (b : UInt8), bs[j]? = some b → code.data.toList[pc + j]? = some b
/-- the piece W has the bytes bs from its place j on -/
def dkIn (W : List UInt8) (j : Nat) (bs : List UInt8) : Bool := decide ((W.drop j).take bs.length = bs)
theorem dk_seg {l W T : List UInt8} {o o2 : Nat} (h : l.drop o = W ++ T) (n : Nat) (hn : W.length = n) (ho : o + n = o2) : l.drop o2 = T := by
  subst ho
  rw [← List.drop_drop, h, List.drop_left' hn]
theorem dk_at {code : ByteArray} {W T bs : List UInt8} {o pc : Nat} (h : code.data.toList.drop o = W ++ T) (j : Nat) (hp : o + j = pc) (hw : dkIn W j bs = true) : DkAt code pc bs := by
  subst hp
  intro i b e
  have h1 := of_decide_eq_true hw
  have h2 : i < bs.length := (List.getElem?_eq_some_iff.mp e).1
  have h3 : W[j + i]? = some b := by
    rw [← h1, List.getElem?_take, if_pos h2, List.getElem?_drop] at e
    exact e
  have h4 : j + i < W.length := (List.getElem?_eq_some_iff.mp h3).1
  have h5 : (code.data.toList.drop o)[j + i]? = some b := by
    rw [h, List.getElem?_append_left h4]
    exact h3
  rw [List.getElem?_drop, ← Nat.add_assoc] at h5
  exact h5
theorem dk_u1 {A : ByteArray} {p : Nat} {b : UInt8} (h : A.data.toList[p]? = some b) : (Reader.u1 : Reader DecodeError Nat) A p = .ok (b.toNat, p + 1) := by
  obtain ⟨h1, h2⟩ := List.getElem?_eq_some_iff.mp h
  have h3 : p < A.size := by simpa using h1
  have h4 : A[p]'h3 = b := h2
  have e : (Reader.u1 : Reader DecodeError Nat) A p = (if h : p < A.size then .ok (A[p].toNat, p + 1) else .error (HasTruncated.truncated p)) := by
    show (do if h : p < A.size then do set (p + 1); Pure.pure A[p].toNat else MonadExcept.throw (HasTruncated.truncated p) : Reader DecodeError Nat) A p = _
    by_cases hi : p < A.size
    · rw [dif_pos hi, dif_pos hi]; rfl
    · rw [dif_neg hi, dif_neg hi]; rfl
  rw [e, dif_pos h3, h4]
theorem dk_bind {α β : Type} {r : Reader DecodeError α} {f : α → Reader DecodeError β} {A : ByteArray} {p s : Nat} {a : α} (h : r A p = .ok (a, s)) : (r >>= f) A p = f a A s := by
  show (do let (a, s) ← r A p; f a A s : Except DecodeError (β × Nat)) = _
  rw [h]
  rfl
theorem dk_map {α β : Type} {r : Reader DecodeError α} {g : α → β} {A : ByteArray} {p s : Nat} {a : α} (h : r A p = .ok (a, s)) : (g <$> r) A p = .ok (g a, s) := by
  show (do let (a, s) ← r A p; .ok (g a, s) : Except DecodeError (β × Nat)) = _
  rw [h]
  rfl
theorem dk_u2 {A : ByteArray} {p : Nat} {a b : UInt8} (h : A.data.toList[p]? = some a) (h2 : A.data.toList[p + 1]? = some b) : (Reader.u2 : Reader DecodeError Nat) A p = .ok (a.toNat * 256 + b.toNat, p + 2) := by
  show (Reader.u1 >>= fun hi => Reader.u1 >>= fun lo => Pure.pure (hi * 256 + lo) : Reader DecodeError Nat) A p = _
  rw [dk_bind (dk_u1 h), dk_bind (dk_u1 h2)]
  rfl
theorem dk_of {code : ByteArray} {pc n : Nat} {i : Instr} (h : Decoder.instr pc code pc = .ok (i, pc + n)) : decode code pc = .ok (i, n) := by
  have e : decode code pc = (match Decoder.instr pc code pc with | .error x => .error x | .ok (j, s) => .ok (j, s - pc)) := by
    show (do let (j, s) ← Decoder.instr pc code pc; Pure.pure (j, s - pc) : Except DecodeError (Instr × Nat)) = _
    cases Decoder.instr pc code pc <;> rfl
  rw [e, h]
  show Except.ok (i, pc + n - pc) = _
  rw [Nat.add_sub_cancel_left]
theorem dk_1 {code : ByteArray} {pc : Nat} (h : DkAt code pc [1]) : decode code pc = .ok (.aconst_null, 1) := dk_of ((dk_bind (dk_u1 (h 0 _ rfl))).trans rfl)
theorem dk_2 {code : ByteArray} {pc : Nat} (h : DkAt code pc [2]) : decode code pc = .ok (.iconst (-1), 1) := dk_of ((dk_bind (dk_u1 (h 0 _ rfl))).trans rfl)
theorem dk_3 {code : ByteArray} {pc : Nat} (h : DkAt code pc [3]) : decode code pc = .ok (.iconst 0, 1) := dk_of ((dk_bind (dk_u1 (h 0 _ rfl))).trans rfl)
theorem dk_4 {code : ByteArray} {pc : Nat} (h : DkAt code pc [4]) : decode code pc = .ok (.iconst 1, 1) := dk_of ((dk_bind (dk_u1 (h 0 _ rfl))).trans rfl)
theorem dk_5 {code : ByteArray} {pc : Nat} (h : DkAt code pc [5]) : decode code pc = .ok (.iconst 2, 1) := dk_of ((dk_bind (dk_u1 (h 0 _ rfl))).trans rfl)
theorem dk_6 {code : ByteArray} {pc : Nat} (h : DkAt code pc [6]) : decode code pc = .ok (.iconst 3, 1) := dk_of ((dk_bind (dk_u1 (h 0 _ rfl))).trans rfl)
theorem dk_7 {code : ByteArray} {pc : Nat} (h : DkAt code pc [7]) : decode code pc = .ok (.iconst 4, 1) := dk_of ((dk_bind (dk_u1 (h 0 _ rfl))).trans rfl)
theorem dk_8 {code : ByteArray} {pc : Nat} (h : DkAt code pc [8]) : decode code pc = .ok (.iconst 5, 1) := dk_of ((dk_bind (dk_u1 (h 0 _ rfl))).trans rfl)
theorem dk_9 {code : ByteArray} {pc : Nat} (h : DkAt code pc [9]) : decode code pc = .ok (.lconst 0, 1) := dk_of ((dk_bind (dk_u1 (h 0 _ rfl))).trans rfl)
theorem dk_10 {code : ByteArray} {pc : Nat} (h : DkAt code pc [10]) : decode code pc = .ok (.lconst 1, 1) := dk_of ((dk_bind (dk_u1 (h 0 _ rfl))).trans rfl)
theorem dk_16 {code : ByteArray} {pc : Nat} (a : UInt8) (h : DkAt code pc [16, a]) : decode code pc = .ok (.bipush (Reader.signed 8 a.toNat), 2) := dk_of ((dk_bind (dk_u1 (h 0 _ rfl))).trans ((dk_bind (dk_map (dk_u1 (h 1 _ rfl)))).trans rfl))
theorem dk_17 {code : ByteArray} {pc : Nat} (a b : UInt8) (h : DkAt code pc [17, a, b]) : decode code pc = .ok (.sipush (Reader.signed 16 (a.toNat * 256 + b.toNat)), 3) := dk_of ((dk_bind (dk_u1 (h 0 _ rfl))).trans ((dk_bind (dk_map (dk_u2 (h 1 _ rfl) (h 2 _ rfl)))).trans rfl))
theorem dk_18 {code : ByteArray} {pc : Nat} (a : UInt8) (h : DkAt code pc [18, a]) : decode code pc = .ok (.ldc a.toNat, 2) := dk_of ((dk_bind (dk_u1 (h 0 _ rfl))).trans ((dk_bind (dk_u1 (h 1 _ rfl))).trans rfl))
theorem dk_19 {code : ByteArray} {pc : Nat} (a b : UInt8) (h : DkAt code pc [19, a, b]) : decode code pc = .ok (.ldc_w (a.toNat * 256 + b.toNat), 3) := dk_of ((dk_bind (dk_u1 (h 0 _ rfl))).trans ((dk_bind (dk_u2 (h 1 _ rfl) (h 2 _ rfl))).trans rfl))
theorem dk_20 {code : ByteArray} {pc : Nat} (a b : UInt8) (h : DkAt code pc [20, a, b]) : decode code pc = .ok (.ldc2_w (a.toNat * 256 + b.toNat), 3) := dk_of ((dk_bind (dk_u1 (h 0 _ rfl))).trans ((dk_bind (dk_u2 (h 1 _ rfl) (h 2 _ rfl))).trans rfl))
theorem dk_21 {code : ByteArray} {pc : Nat} (a : UInt8) (h : DkAt code pc [21, a]) : decode code pc = .ok (.iload a.toNat, 2) := dk_of ((dk_bind (dk_u1 (h 0 _ rfl))).trans ((dk_bind (dk_u1 (h 1 _ rfl))).trans rfl))
theorem dk_22 {code : ByteArray} {pc : Nat} (a : UInt8) (h : DkAt code pc [22, a]) : decode code pc = .ok (.lload a.toNat, 2) := dk_of ((dk_bind (dk_u1 (h 0 _ rfl))).trans ((dk_bind (dk_u1 (h 1 _ rfl))).trans rfl))
theorem dk_25 {code : ByteArray} {pc : Nat} (a : UInt8) (h : DkAt code pc [25, a]) : decode code pc = .ok (.aload a.toNat, 2) := dk_of ((dk_bind (dk_u1 (h 0 _ rfl))).trans ((dk_bind (dk_u1 (h 1 _ rfl))).trans rfl))
theorem dk_26 {code : ByteArray} {pc : Nat} (h : DkAt code pc [26]) : decode code pc = .ok (.iload_n 0, 1) := dk_of ((dk_bind (dk_u1 (h 0 _ rfl))).trans rfl)
theorem dk_27 {code : ByteArray} {pc : Nat} (h : DkAt code pc [27]) : decode code pc = .ok (.iload_n 1, 1) := dk_of ((dk_bind (dk_u1 (h 0 _ rfl))).trans rfl)
theorem dk_28 {code : ByteArray} {pc : Nat} (h : DkAt code pc [28]) : decode code pc = .ok (.iload_n 2, 1) := dk_of ((dk_bind (dk_u1 (h 0 _ rfl))).trans rfl)
theorem dk_29 {code : ByteArray} {pc : Nat} (h : DkAt code pc [29]) : decode code pc = .ok (.iload_n 3, 1) := dk_of ((dk_bind (dk_u1 (h 0 _ rfl))).trans rfl)
theorem dk_33 {code : ByteArray} {pc : Nat} (h : DkAt code pc [33]) : decode code pc = .ok (.lload_n 3, 1) := dk_of ((dk_bind (dk_u1 (h 0 _ rfl))).trans rfl)
theorem dk_42 {code : ByteArray} {pc : Nat} (h : DkAt code pc [42]) : decode code pc = .ok (.aload_n 0, 1) := dk_of ((dk_bind (dk_u1 (h 0 _ rfl))).trans rfl)
theorem dk_43 {code : ByteArray} {pc : Nat} (h : DkAt code pc [43]) : decode code pc = .ok (.aload_n 1, 1) := dk_of ((dk_bind (dk_u1 (h 0 _ rfl))).trans rfl)
theorem dk_44 {code : ByteArray} {pc : Nat} (h : DkAt code pc [44]) : decode code pc = .ok (.aload_n 2, 1) := dk_of ((dk_bind (dk_u1 (h 0 _ rfl))).trans rfl)
theorem dk_45 {code : ByteArray} {pc : Nat} (h : DkAt code pc [45]) : decode code pc = .ok (.aload_n 3, 1) := dk_of ((dk_bind (dk_u1 (h 0 _ rfl))).trans rfl)
theorem dk_46 {code : ByteArray} {pc : Nat} (h : DkAt code pc [46]) : decode code pc = .ok (.iaload, 1) := dk_of ((dk_bind (dk_u1 (h 0 _ rfl))).trans rfl)
theorem dk_47 {code : ByteArray} {pc : Nat} (h : DkAt code pc [47]) : decode code pc = .ok (.laload, 1) := dk_of ((dk_bind (dk_u1 (h 0 _ rfl))).trans rfl)
theorem dk_50 {code : ByteArray} {pc : Nat} (h : DkAt code pc [50]) : decode code pc = .ok (.aaload, 1) := dk_of ((dk_bind (dk_u1 (h 0 _ rfl))).trans rfl)
theorem dk_51 {code : ByteArray} {pc : Nat} (h : DkAt code pc [51]) : decode code pc = .ok (.baload, 1) := dk_of ((dk_bind (dk_u1 (h 0 _ rfl))).trans rfl)
theorem dk_54 {code : ByteArray} {pc : Nat} (a : UInt8) (h : DkAt code pc [54, a]) : decode code pc = .ok (.istore a.toNat, 2) := dk_of ((dk_bind (dk_u1 (h 0 _ rfl))).trans ((dk_bind (dk_u1 (h 1 _ rfl))).trans rfl))
theorem dk_55 {code : ByteArray} {pc : Nat} (a : UInt8) (h : DkAt code pc [55, a]) : decode code pc = .ok (.lstore a.toNat, 2) := dk_of ((dk_bind (dk_u1 (h 0 _ rfl))).trans ((dk_bind (dk_u1 (h 1 _ rfl))).trans rfl))
theorem dk_58 {code : ByteArray} {pc : Nat} (a : UInt8) (h : DkAt code pc [58, a]) : decode code pc = .ok (.astore a.toNat, 2) := dk_of ((dk_bind (dk_u1 (h 0 _ rfl))).trans ((dk_bind (dk_u1 (h 1 _ rfl))).trans rfl))
theorem dk_59 {code : ByteArray} {pc : Nat} (h : DkAt code pc [59]) : decode code pc = .ok (.istore_n 0, 1) := dk_of ((dk_bind (dk_u1 (h 0 _ rfl))).trans rfl)
theorem dk_60 {code : ByteArray} {pc : Nat} (h : DkAt code pc [60]) : decode code pc = .ok (.istore_n 1, 1) := dk_of ((dk_bind (dk_u1 (h 0 _ rfl))).trans rfl)
theorem dk_61 {code : ByteArray} {pc : Nat} (h : DkAt code pc [61]) : decode code pc = .ok (.istore_n 2, 1) := dk_of ((dk_bind (dk_u1 (h 0 _ rfl))).trans rfl)
theorem dk_62 {code : ByteArray} {pc : Nat} (h : DkAt code pc [62]) : decode code pc = .ok (.istore_n 3, 1) := dk_of ((dk_bind (dk_u1 (h 0 _ rfl))).trans rfl)
theorem dk_66 {code : ByteArray} {pc : Nat} (h : DkAt code pc [66]) : decode code pc = .ok (.lstore_n 3, 1) := dk_of ((dk_bind (dk_u1 (h 0 _ rfl))).trans rfl)
theorem dk_76 {code : ByteArray} {pc : Nat} (h : DkAt code pc [76]) : decode code pc = .ok (.astore_n 1, 1) := dk_of ((dk_bind (dk_u1 (h 0 _ rfl))).trans rfl)
theorem dk_77 {code : ByteArray} {pc : Nat} (h : DkAt code pc [77]) : decode code pc = .ok (.astore_n 2, 1) := dk_of ((dk_bind (dk_u1 (h 0 _ rfl))).trans rfl)
theorem dk_78 {code : ByteArray} {pc : Nat} (h : DkAt code pc [78]) : decode code pc = .ok (.astore_n 3, 1) := dk_of ((dk_bind (dk_u1 (h 0 _ rfl))).trans rfl)
theorem dk_79 {code : ByteArray} {pc : Nat} (h : DkAt code pc [79]) : decode code pc = .ok (.iastore, 1) := dk_of ((dk_bind (dk_u1 (h 0 _ rfl))).trans rfl)
theorem dk_80 {code : ByteArray} {pc : Nat} (h : DkAt code pc [80]) : decode code pc = .ok (.lastore, 1) := dk_of ((dk_bind (dk_u1 (h 0 _ rfl))).trans rfl)
theorem dk_83 {code : ByteArray} {pc : Nat} (h : DkAt code pc [83]) : decode code pc = .ok (.aastore, 1) := dk_of ((dk_bind (dk_u1 (h 0 _ rfl))).trans rfl)
theorem dk_84 {code : ByteArray} {pc : Nat} (h : DkAt code pc [84]) : decode code pc = .ok (.bastore, 1) := dk_of ((dk_bind (dk_u1 (h 0 _ rfl))).trans rfl)
theorem dk_87 {code : ByteArray} {pc : Nat} (h : DkAt code pc [87]) : decode code pc = .ok (.pop, 1) := dk_of ((dk_bind (dk_u1 (h 0 _ rfl))).trans rfl)
theorem dk_89 {code : ByteArray} {pc : Nat} (h : DkAt code pc [89]) : decode code pc = .ok (.dup, 1) := dk_of ((dk_bind (dk_u1 (h 0 _ rfl))).trans rfl)
theorem dk_90 {code : ByteArray} {pc : Nat} (h : DkAt code pc [90]) : decode code pc = .ok (.dup_x1, 1) := dk_of ((dk_bind (dk_u1 (h 0 _ rfl))).trans rfl)
theorem dk_92 {code : ByteArray} {pc : Nat} (h : DkAt code pc [92]) : decode code pc = .ok (.dup2, 1) := dk_of ((dk_bind (dk_u1 (h 0 _ rfl))).trans rfl)
theorem dk_96 {code : ByteArray} {pc : Nat} (h : DkAt code pc [96]) : decode code pc = .ok (.iadd, 1) := dk_of ((dk_bind (dk_u1 (h 0 _ rfl))).trans rfl)
theorem dk_97 {code : ByteArray} {pc : Nat} (h : DkAt code pc [97]) : decode code pc = .ok (.ladd, 1) := dk_of ((dk_bind (dk_u1 (h 0 _ rfl))).trans rfl)
theorem dk_100 {code : ByteArray} {pc : Nat} (h : DkAt code pc [100]) : decode code pc = .ok (.isub, 1) := dk_of ((dk_bind (dk_u1 (h 0 _ rfl))).trans rfl)
theorem dk_101 {code : ByteArray} {pc : Nat} (h : DkAt code pc [101]) : decode code pc = .ok (.lsub, 1) := dk_of ((dk_bind (dk_u1 (h 0 _ rfl))).trans rfl)
theorem dk_104 {code : ByteArray} {pc : Nat} (h : DkAt code pc [104]) : decode code pc = .ok (.imul, 1) := dk_of ((dk_bind (dk_u1 (h 0 _ rfl))).trans rfl)
theorem dk_105 {code : ByteArray} {pc : Nat} (h : DkAt code pc [105]) : decode code pc = .ok (.lmul, 1) := dk_of ((dk_bind (dk_u1 (h 0 _ rfl))).trans rfl)
theorem dk_108 {code : ByteArray} {pc : Nat} (h : DkAt code pc [108]) : decode code pc = .ok (.idiv, 1) := dk_of ((dk_bind (dk_u1 (h 0 _ rfl))).trans rfl)
theorem dk_109 {code : ByteArray} {pc : Nat} (h : DkAt code pc [109]) : decode code pc = .ok (.ldiv, 1) := dk_of ((dk_bind (dk_u1 (h 0 _ rfl))).trans rfl)
theorem dk_112 {code : ByteArray} {pc : Nat} (h : DkAt code pc [112]) : decode code pc = .ok (.irem, 1) := dk_of ((dk_bind (dk_u1 (h 0 _ rfl))).trans rfl)
theorem dk_120 {code : ByteArray} {pc : Nat} (h : DkAt code pc [120]) : decode code pc = .ok (.ishl, 1) := dk_of ((dk_bind (dk_u1 (h 0 _ rfl))).trans rfl)
theorem dk_121 {code : ByteArray} {pc : Nat} (h : DkAt code pc [121]) : decode code pc = .ok (.lshl, 1) := dk_of ((dk_bind (dk_u1 (h 0 _ rfl))).trans rfl)
theorem dk_122 {code : ByteArray} {pc : Nat} (h : DkAt code pc [122]) : decode code pc = .ok (.ishr, 1) := dk_of ((dk_bind (dk_u1 (h 0 _ rfl))).trans rfl)
theorem dk_124 {code : ByteArray} {pc : Nat} (h : DkAt code pc [124]) : decode code pc = .ok (.iushr, 1) := dk_of ((dk_bind (dk_u1 (h 0 _ rfl))).trans rfl)
theorem dk_126 {code : ByteArray} {pc : Nat} (h : DkAt code pc [126]) : decode code pc = .ok (.iand, 1) := dk_of ((dk_bind (dk_u1 (h 0 _ rfl))).trans rfl)
theorem dk_128 {code : ByteArray} {pc : Nat} (h : DkAt code pc [128]) : decode code pc = .ok (.ior, 1) := dk_of ((dk_bind (dk_u1 (h 0 _ rfl))).trans rfl)
theorem dk_129 {code : ByteArray} {pc : Nat} (h : DkAt code pc [129]) : decode code pc = .ok (.lor, 1) := dk_of ((dk_bind (dk_u1 (h 0 _ rfl))).trans rfl)
theorem dk_130 {code : ByteArray} {pc : Nat} (h : DkAt code pc [130]) : decode code pc = .ok (.ixor, 1) := dk_of ((dk_bind (dk_u1 (h 0 _ rfl))).trans rfl)
theorem dk_132 {code : ByteArray} {pc : Nat} (a b : UInt8) (h : DkAt code pc [132, a, b]) : decode code pc = .ok (.iinc a.toNat (Reader.signed 8 b.toNat), 3) := dk_of ((dk_bind (dk_u1 (h 0 _ rfl))).trans ((dk_bind (dk_u1 (h 1 _ rfl))).trans ((dk_bind (dk_map (dk_u1 (h 2 _ rfl)))).trans rfl)))
theorem dk_133 {code : ByteArray} {pc : Nat} (h : DkAt code pc [133]) : decode code pc = .ok (.i2l, 1) := dk_of ((dk_bind (dk_u1 (h 0 _ rfl))).trans rfl)
theorem dk_136 {code : ByteArray} {pc : Nat} (h : DkAt code pc [136]) : decode code pc = .ok (.l2i, 1) := dk_of ((dk_bind (dk_u1 (h 0 _ rfl))).trans rfl)
theorem dk_145 {code : ByteArray} {pc : Nat} (h : DkAt code pc [145]) : decode code pc = .ok (.i2b, 1) := dk_of ((dk_bind (dk_u1 (h 0 _ rfl))).trans rfl)
theorem dk_146 {code : ByteArray} {pc : Nat} (h : DkAt code pc [146]) : decode code pc = .ok (.i2c, 1) := dk_of ((dk_bind (dk_u1 (h 0 _ rfl))).trans rfl)
theorem dk_148 {code : ByteArray} {pc : Nat} (h : DkAt code pc [148]) : decode code pc = .ok (.lcmp, 1) := dk_of ((dk_bind (dk_u1 (h 0 _ rfl))).trans rfl)
theorem dk_153 {code : ByteArray} {pc : Nat} (a b : UInt8) (h : DkAt code pc [153, a, b]) : decode code pc = .ok (.ifCond .eq (Reader.signed 16 (a.toNat * 256 + b.toNat)), 3) := dk_of ((dk_bind (dk_u1 (h 0 _ rfl))).trans ((dk_bind (dk_map (dk_u2 (h 1 _ rfl) (h 2 _ rfl)))).trans rfl))
theorem dk_154 {code : ByteArray} {pc : Nat} (a b : UInt8) (h : DkAt code pc [154, a, b]) : decode code pc = .ok (.ifCond .ne (Reader.signed 16 (a.toNat * 256 + b.toNat)), 3) := dk_of ((dk_bind (dk_u1 (h 0 _ rfl))).trans ((dk_bind (dk_map (dk_u2 (h 1 _ rfl) (h 2 _ rfl)))).trans rfl))
theorem dk_155 {code : ByteArray} {pc : Nat} (a b : UInt8) (h : DkAt code pc [155, a, b]) : decode code pc = .ok (.ifCond .lt (Reader.signed 16 (a.toNat * 256 + b.toNat)), 3) := dk_of ((dk_bind (dk_u1 (h 0 _ rfl))).trans ((dk_bind (dk_map (dk_u2 (h 1 _ rfl) (h 2 _ rfl)))).trans rfl))
theorem dk_156 {code : ByteArray} {pc : Nat} (a b : UInt8) (h : DkAt code pc [156, a, b]) : decode code pc = .ok (.ifCond .ge (Reader.signed 16 (a.toNat * 256 + b.toNat)), 3) := dk_of ((dk_bind (dk_u1 (h 0 _ rfl))).trans ((dk_bind (dk_map (dk_u2 (h 1 _ rfl) (h 2 _ rfl)))).trans rfl))
theorem dk_157 {code : ByteArray} {pc : Nat} (a b : UInt8) (h : DkAt code pc [157, a, b]) : decode code pc = .ok (.ifCond .gt (Reader.signed 16 (a.toNat * 256 + b.toNat)), 3) := dk_of ((dk_bind (dk_u1 (h 0 _ rfl))).trans ((dk_bind (dk_map (dk_u2 (h 1 _ rfl) (h 2 _ rfl)))).trans rfl))
theorem dk_158 {code : ByteArray} {pc : Nat} (a b : UInt8) (h : DkAt code pc [158, a, b]) : decode code pc = .ok (.ifCond .le (Reader.signed 16 (a.toNat * 256 + b.toNat)), 3) := dk_of ((dk_bind (dk_u1 (h 0 _ rfl))).trans ((dk_bind (dk_map (dk_u2 (h 1 _ rfl) (h 2 _ rfl)))).trans rfl))
theorem dk_159 {code : ByteArray} {pc : Nat} (a b : UInt8) (h : DkAt code pc [159, a, b]) : decode code pc = .ok (.if_icmp .eq (Reader.signed 16 (a.toNat * 256 + b.toNat)), 3) := dk_of ((dk_bind (dk_u1 (h 0 _ rfl))).trans ((dk_bind (dk_map (dk_u2 (h 1 _ rfl) (h 2 _ rfl)))).trans rfl))
theorem dk_160 {code : ByteArray} {pc : Nat} (a b : UInt8) (h : DkAt code pc [160, a, b]) : decode code pc = .ok (.if_icmp .ne (Reader.signed 16 (a.toNat * 256 + b.toNat)), 3) := dk_of ((dk_bind (dk_u1 (h 0 _ rfl))).trans ((dk_bind (dk_map (dk_u2 (h 1 _ rfl) (h 2 _ rfl)))).trans rfl))
theorem dk_161 {code : ByteArray} {pc : Nat} (a b : UInt8) (h : DkAt code pc [161, a, b]) : decode code pc = .ok (.if_icmp .lt (Reader.signed 16 (a.toNat * 256 + b.toNat)), 3) := dk_of ((dk_bind (dk_u1 (h 0 _ rfl))).trans ((dk_bind (dk_map (dk_u2 (h 1 _ rfl) (h 2 _ rfl)))).trans rfl))
theorem dk_162 {code : ByteArray} {pc : Nat} (a b : UInt8) (h : DkAt code pc [162, a, b]) : decode code pc = .ok (.if_icmp .ge (Reader.signed 16 (a.toNat * 256 + b.toNat)), 3) := dk_of ((dk_bind (dk_u1 (h 0 _ rfl))).trans ((dk_bind (dk_map (dk_u2 (h 1 _ rfl) (h 2 _ rfl)))).trans rfl))
theorem dk_163 {code : ByteArray} {pc : Nat} (a b : UInt8) (h : DkAt code pc [163, a, b]) : decode code pc = .ok (.if_icmp .gt (Reader.signed 16 (a.toNat * 256 + b.toNat)), 3) := dk_of ((dk_bind (dk_u1 (h 0 _ rfl))).trans ((dk_bind (dk_map (dk_u2 (h 1 _ rfl) (h 2 _ rfl)))).trans rfl))
theorem dk_164 {code : ByteArray} {pc : Nat} (a b : UInt8) (h : DkAt code pc [164, a, b]) : decode code pc = .ok (.if_icmp .le (Reader.signed 16 (a.toNat * 256 + b.toNat)), 3) := dk_of ((dk_bind (dk_u1 (h 0 _ rfl))).trans ((dk_bind (dk_map (dk_u2 (h 1 _ rfl) (h 2 _ rfl)))).trans rfl))
theorem dk_165 {code : ByteArray} {pc : Nat} (a b : UInt8) (h : DkAt code pc [165, a, b]) : decode code pc = .ok (.if_acmp .eq (Reader.signed 16 (a.toNat * 256 + b.toNat)), 3) := dk_of ((dk_bind (dk_u1 (h 0 _ rfl))).trans ((dk_bind (dk_map (dk_u2 (h 1 _ rfl) (h 2 _ rfl)))).trans rfl))
theorem dk_166 {code : ByteArray} {pc : Nat} (a b : UInt8) (h : DkAt code pc [166, a, b]) : decode code pc = .ok (.if_acmp .ne (Reader.signed 16 (a.toNat * 256 + b.toNat)), 3) := dk_of ((dk_bind (dk_u1 (h 0 _ rfl))).trans ((dk_bind (dk_map (dk_u2 (h 1 _ rfl) (h 2 _ rfl)))).trans rfl))
theorem dk_167 {code : ByteArray} {pc : Nat} (a b : UInt8) (h : DkAt code pc [167, a, b]) : decode code pc = .ok (.goto (Reader.signed 16 (a.toNat * 256 + b.toNat)), 3) := dk_of ((dk_bind (dk_u1 (h 0 _ rfl))).trans ((dk_bind (dk_map (dk_u2 (h 1 _ rfl) (h 2 _ rfl)))).trans rfl))
theorem dk_172 {code : ByteArray} {pc : Nat} (h : DkAt code pc [172]) : decode code pc = .ok (.ireturn, 1) := dk_of ((dk_bind (dk_u1 (h 0 _ rfl))).trans rfl)
theorem dk_173 {code : ByteArray} {pc : Nat} (h : DkAt code pc [173]) : decode code pc = .ok (.lreturn, 1) := dk_of ((dk_bind (dk_u1 (h 0 _ rfl))).trans rfl)
theorem dk_176 {code : ByteArray} {pc : Nat} (h : DkAt code pc [176]) : decode code pc = .ok (.areturn, 1) := dk_of ((dk_bind (dk_u1 (h 0 _ rfl))).trans rfl)
theorem dk_177 {code : ByteArray} {pc : Nat} (h : DkAt code pc [177]) : decode code pc = .ok (.return_, 1) := dk_of ((dk_bind (dk_u1 (h 0 _ rfl))).trans rfl)
theorem dk_178 {code : ByteArray} {pc : Nat} (a b : UInt8) (h : DkAt code pc [178, a, b]) : decode code pc = .ok (.getstatic (a.toNat * 256 + b.toNat), 3) := dk_of ((dk_bind (dk_u1 (h 0 _ rfl))).trans ((dk_bind (dk_u2 (h 1 _ rfl) (h 2 _ rfl))).trans rfl))
theorem dk_180 {code : ByteArray} {pc : Nat} (a b : UInt8) (h : DkAt code pc [180, a, b]) : decode code pc = .ok (.getfield (a.toNat * 256 + b.toNat), 3) := dk_of ((dk_bind (dk_u1 (h 0 _ rfl))).trans ((dk_bind (dk_u2 (h 1 _ rfl) (h 2 _ rfl))).trans rfl))
theorem dk_181 {code : ByteArray} {pc : Nat} (a b : UInt8) (h : DkAt code pc [181, a, b]) : decode code pc = .ok (.putfield (a.toNat * 256 + b.toNat), 3) := dk_of ((dk_bind (dk_u1 (h 0 _ rfl))).trans ((dk_bind (dk_u2 (h 1 _ rfl) (h 2 _ rfl))).trans rfl))
theorem dk_182 {code : ByteArray} {pc : Nat} (a b : UInt8) (h : DkAt code pc [182, a, b]) : decode code pc = .ok (.invokevirtual (a.toNat * 256 + b.toNat), 3) := dk_of ((dk_bind (dk_u1 (h 0 _ rfl))).trans ((dk_bind (dk_u2 (h 1 _ rfl) (h 2 _ rfl))).trans rfl))
theorem dk_183 {code : ByteArray} {pc : Nat} (a b : UInt8) (h : DkAt code pc [183, a, b]) : decode code pc = .ok (.invokespecial (a.toNat * 256 + b.toNat), 3) := dk_of ((dk_bind (dk_u1 (h 0 _ rfl))).trans ((dk_bind (dk_u2 (h 1 _ rfl) (h 2 _ rfl))).trans rfl))
theorem dk_184 {code : ByteArray} {pc : Nat} (a b : UInt8) (h : DkAt code pc [184, a, b]) : decode code pc = .ok (.invokestatic (a.toNat * 256 + b.toNat), 3) := dk_of ((dk_bind (dk_u1 (h 0 _ rfl))).trans ((dk_bind (dk_u2 (h 1 _ rfl) (h 2 _ rfl))).trans rfl))
theorem dk_187 {code : ByteArray} {pc : Nat} (a b : UInt8) (h : DkAt code pc [187, a, b]) : decode code pc = .ok (.new (a.toNat * 256 + b.toNat), 3) := dk_of ((dk_bind (dk_u1 (h 0 _ rfl))).trans ((dk_bind (dk_u2 (h 1 _ rfl) (h 2 _ rfl))).trans rfl))
theorem dk_188_4 {code : ByteArray} {pc : Nat} (h : DkAt code pc [188, 4]) : decode code pc = .ok (.newarray .boolean, 2) := dk_of ((dk_bind (dk_u1 (h 0 _ rfl))).trans ((dk_bind (dk_u1 (h 1 _ rfl))).trans rfl))
theorem dk_188_8 {code : ByteArray} {pc : Nat} (h : DkAt code pc [188, 8]) : decode code pc = .ok (.newarray .byte, 2) := dk_of ((dk_bind (dk_u1 (h 0 _ rfl))).trans ((dk_bind (dk_u1 (h 1 _ rfl))).trans rfl))
theorem dk_188_10 {code : ByteArray} {pc : Nat} (h : DkAt code pc [188, 10]) : decode code pc = .ok (.newarray .int, 2) := dk_of ((dk_bind (dk_u1 (h 0 _ rfl))).trans ((dk_bind (dk_u1 (h 1 _ rfl))).trans rfl))
theorem dk_188_11 {code : ByteArray} {pc : Nat} (h : DkAt code pc [188, 11]) : decode code pc = .ok (.newarray .long, 2) := dk_of ((dk_bind (dk_u1 (h 0 _ rfl))).trans ((dk_bind (dk_u1 (h 1 _ rfl))).trans rfl))
theorem dk_189 {code : ByteArray} {pc : Nat} (a b : UInt8) (h : DkAt code pc [189, a, b]) : decode code pc = .ok (.anewarray (a.toNat * 256 + b.toNat), 3) := dk_of ((dk_bind (dk_u1 (h 0 _ rfl))).trans ((dk_bind (dk_u2 (h 1 _ rfl) (h 2 _ rfl))).trans rfl))
theorem dk_190 {code : ByteArray} {pc : Nat} (h : DkAt code pc [190]) : decode code pc = .ok (.arraylength, 1) := dk_of ((dk_bind (dk_u1 (h 0 _ rfl))).trans rfl)
theorem dk_191 {code : ByteArray} {pc : Nat} (h : DkAt code pc [191]) : decode code pc = .ok (.athrow, 1) := dk_of ((dk_bind (dk_u1 (h 0 _ rfl))).trans rfl)
theorem dk_192 {code : ByteArray} {pc : Nat} (a b : UInt8) (h : DkAt code pc [192, a, b]) : decode code pc = .ok (.checkcast (a.toNat * 256 + b.toNat), 3) := dk_of ((dk_bind (dk_u1 (h 0 _ rfl))).trans ((dk_bind (dk_u2 (h 1 _ rfl) (h 2 _ rfl))).trans rfl))
theorem dk_198 {code : ByteArray} {pc : Nat} (a b : UInt8) (h : DkAt code pc [198, a, b]) : decode code pc = .ok (.ifnull (Reader.signed 16 (a.toNat * 256 + b.toNat)), 3) := dk_of ((dk_bind (dk_u1 (h 0 _ rfl))).trans ((dk_bind (dk_map (dk_u2 (h 1 _ rfl) (h 2 _ rfl)))).trans rfl))
theorem dk_199 {code : ByteArray} {pc : Nat} (a b : UInt8) (h : DkAt code pc [199, a, b]) : decode code pc = .ok (.ifnonnull (Reader.signed 16 (a.toNat * 256 + b.toNat)), 3) := dk_of ((dk_bind (dk_u1 (h 0 _ rfl))).trans ((dk_bind (dk_map (dk_u2 (h 1 _ rfl) (h 2 _ rfl)))).trans rfl))
/-! java/util/AbstractCollection -/
set_option maxRecDepth 100000
def RJ0 : String := "java/util/AbstractCollection"
abbrev cJ0_init : ByteArray := prog_37_method_1_code
def yJ0_init : MethodName := ⟨RJ0, "<init>", "()V"⟩
theorem dJ0_init_0 : decode cJ0_init 0 = .ok (.aload_n 0, 1) := by decide +kernel
theorem dJ0_init_1 : decode cJ0_init 1 = .ok (.invokespecial 1, 3) := by decide +kernel
theorem dJ0_init_4 : decode cJ0_init 4 = .ok (.return_, 1) := by decide +kernel
theorem q102 : (Jvm.Cond.initialized "java/util/AbstractCollection") ∈ lw_all := lw_g (lw_at lw_m1 3 rfl) rfl
theorem q159 : (Jvm.Cond.instanceMethod ({ cls := "java/util/AbstractCollection", name := "<init>", desc := "()V" } : Jvm.MethodName)) ∈ lw_all := lw_g (lw_at lw_m1 60 rfl) rfl
theorem q160 : (Jvm.Cond.code ({ cls := "java/util/AbstractCollection", name := "<init>", desc := "()V" } : Jvm.MethodName) prog_37_method_1_code (1 : Nat) (Option.none : Option Jvm.ClassFile.FieldType)) ∈ lw_all := lw_g (lw_at lw_m1 61 rfl) rfl
theorem q161 : (Jvm.Cond.methodLink "java/util/AbstractCollection" (1 : Nat) ({ cls := "java/lang/Object", name := "<init>", desc := "()V" } : Jvm.MethodName)) ∈ lw_all := lw_g (lw_at lw_m1 62 rfl) rfl
/-! java/util/AbstractList -/
set_option maxRecDepth 100000
def RJ1 : String := "java/util/AbstractList"
abbrev cJ1_init : ByteArray := prog_38_method_1_code
def yJ1_init : MethodName := ⟨RJ1, "<init>", "()V"⟩
def dkwJ1_init_0 : List UInt8 := [42, 183, 0, 1, 42, 3, 181, 0, 7, 177]
abbrev dktJ1_init_0 : List UInt8 := dkwJ1_init_0 ++ []
theorem dksJ1_init_0 : cJ1_init.data.toList.drop 0 = dktJ1_init_0 := by decide +kernel
theorem dJ1_init_0 : decode cJ1_init 0 = .ok (.aload_n 0, 1) := dk_42 (dk_at dksJ1_init_0 0 rfl rfl)
theorem dJ1_init_1 : decode cJ1_init 1 = .ok (.invokespecial 1, 3) := dk_183 0 1 (dk_at dksJ1_init_0 1 rfl rfl)
theorem dJ1_init_4 : decode cJ1_init 4 = .ok (.aload_n 0, 1) := dk_42 (dk_at dksJ1_init_0 4 rfl rfl)
theorem dJ1_init_5 : decode cJ1_init 5 = .ok (.iconst 0, 1) := dk_3 (dk_at dksJ1_init_0 5 rfl rfl)
theorem dJ1_init_6 : decode cJ1_init 6 = .ok (.putfield 7, 3) := dk_181 0 7 (dk_at dksJ1_init_0 6 rfl rfl)
theorem dJ1_init_9 : decode cJ1_init 9 = .ok (.return_, 1) := dk_177 (dk_at dksJ1_init_0 9 rfl rfl)
theorem q103 : (Jvm.Cond.initialized "java/util/AbstractList") ∈ lw_all := lw_g (lw_at lw_m1 4 rfl) rfl
theorem q156 : (Jvm.Cond.instanceMethod ({ cls := "java/util/AbstractList", name := "<init>", desc := "()V" } : Jvm.MethodName)) ∈ lw_all := lw_g (lw_at lw_m1 57 rfl) rfl
theorem q157 : (Jvm.Cond.code ({ cls := "java/util/AbstractList", name := "<init>", desc := "()V" } : Jvm.MethodName) prog_38_method_1_code (1 : Nat) (Option.none : Option Jvm.ClassFile.FieldType)) ∈ lw_all := lw_g (lw_at lw_m1 58 rfl) rfl
theorem q158 : (Jvm.Cond.methodLink "java/util/AbstractList" (1 : Nat) ({ cls := "java/util/AbstractCollection", name := "<init>", desc := "()V" } : Jvm.MethodName)) ∈ lw_all := lw_g (lw_at lw_m1 59 rfl) rfl
theorem q166 : (Jvm.Cond.fieldLink "java/util/AbstractList" (7 : Nat) "java/util/AbstractList" "modCount" "I") ∈ lw_all := lw_g (lw_at lw_m1 67 rfl) rfl
theorem q174 : (Jvm.Cond.soleField "java/util/AbstractList" "modCount") ∈ lw_all := lw_g (lw_at lw_m1 75 rfl) rfl
/-! jdk/internal/util/Preconditions -/
set_option maxRecDepth 100000
def RJ10 : String := "jdk/internal/util/Preconditions"
abbrev cJ10_checkIndex : ByteArray := prog_48_method_11_code
def yJ10_checkIndex : MethodName := ⟨RJ10, "checkIndex", "(IILjava/util/function/BiFunction;)I"⟩
def dkwJ10_checkIndex_0 : List UInt8 := [26, 155, 0, 8, 26, 27, 161, 0, 10, 44, 26, 27, 184, 0, 95, 191, 26, 172]
abbrev dktJ10_checkIndex_0 : List UInt8 := dkwJ10_checkIndex_0 ++ []
theorem dksJ10_checkIndex_0 : cJ10_checkIndex.data.toList.drop 0 = dktJ10_checkIndex_0 := by decide +kernel
theorem dJ10_checkIndex_0 : decode cJ10_checkIndex 0 = .ok (.iload_n 0, 1) := dk_26 (dk_at dksJ10_checkIndex_0 0 rfl rfl)
theorem dJ10_checkIndex_1 : decode cJ10_checkIndex 1 = .ok (.ifCond .lt 8, 3) := dk_155 0 8 (dk_at dksJ10_checkIndex_0 1 rfl rfl)
theorem dJ10_checkIndex_4 : decode cJ10_checkIndex 4 = .ok (.iload_n 0, 1) := dk_26 (dk_at dksJ10_checkIndex_0 4 rfl rfl)
theorem dJ10_checkIndex_5 : decode cJ10_checkIndex 5 = .ok (.iload_n 1, 1) := dk_27 (dk_at dksJ10_checkIndex_0 5 rfl rfl)
theorem dJ10_checkIndex_6 : decode cJ10_checkIndex 6 = .ok (.if_icmp .lt 10, 3) := dk_161 0 10 (dk_at dksJ10_checkIndex_0 6 rfl rfl)
theorem dJ10_checkIndex_9 : decode cJ10_checkIndex 9 = .ok (.aload_n 2, 1) := dk_44 (dk_at dksJ10_checkIndex_0 9 rfl rfl)
theorem dJ10_checkIndex_10 : decode cJ10_checkIndex 10 = .ok (.iload_n 0, 1) := dk_26 (dk_at dksJ10_checkIndex_0 10 rfl rfl)
theorem dJ10_checkIndex_11 : decode cJ10_checkIndex 11 = .ok (.iload_n 1, 1) := dk_27 (dk_at dksJ10_checkIndex_0 11 rfl rfl)
theorem dJ10_checkIndex_12 : decode cJ10_checkIndex 12 = .ok (.invokestatic 95, 3) := dk_184 0 95 (dk_at dksJ10_checkIndex_0 12 rfl rfl)
theorem dJ10_checkIndex_15 : decode cJ10_checkIndex 15 = .ok (.athrow, 1) := dk_191 (dk_at dksJ10_checkIndex_0 15 rfl rfl)
theorem dJ10_checkIndex_16 : decode cJ10_checkIndex 16 = .ok (.iload_n 0, 1) := dk_26 (dk_at dksJ10_checkIndex_0 16 rfl rfl)
theorem dJ10_checkIndex_17 : decode cJ10_checkIndex 17 = .ok (.ireturn, 1) := dk_172 (dk_at dksJ10_checkIndex_0 17 rfl rfl)
theorem q122 : (Jvm.Cond.initialized "jdk/internal/util/Preconditions") ∈ lw_all := lw_g (lw_at lw_m1 23 rfl) rfl
theorem q445 : (Jvm.Cond.static ({ cls := "jdk/internal/util/Preconditions", name := "checkIndex", desc := "(IILjava/util/function/BiFunction;)I" } : Jvm.MethodName)) ∈ lw_all := lw_g (lw_at lw_m2 106 rfl) rfl
theorem q446 : (Jvm.Cond.code ({ cls := "jdk/internal/util/Preconditions", name := "checkIndex", desc := "(IILjava/util/function/BiFunction;)I" } : Jvm.MethodName) prog_48_method_11_code (3 : Nat) (Option.some Jvm.ClassFile.FieldType.int)) ∈ lw_all := lw_g (lw_at lw_m2 107 rfl) rfl
theorem q805 : (Jvm.Cond.laysStatic "jdk/internal/util/Preconditions" "SIOOBE_FORMATTER" "Ljava/util/function/BiFunction;") ∈ lw_tbl := lw_at lw_m3 226 rfl
/-! java/lang/StringUTF16 -/
set_option maxRecDepth 100000
def RJ11 : String := "java/lang/StringUTF16"
abbrev cJ11_charAt : ByteArray := prog_32_method_83_code
def yJ11_charAt : MethodName := ⟨RJ11, "charAt", "([BI)C"⟩
def dkwJ11_charAt_0 : List UInt8 := [27, 42, 184, 0, 67, 42, 27, 184, 0, 71, 172]
abbrev dktJ11_charAt_0 : List UInt8 := dkwJ11_charAt_0 ++ []
theorem dksJ11_charAt_0 : cJ11_charAt.data.toList.drop 0 = dktJ11_charAt_0 := by decide +kernel
theorem dJ11_charAt_0 : decode cJ11_charAt 0 = .ok (.iload_n 1, 1) := dk_27 (dk_at dksJ11_charAt_0 0 rfl rfl)
theorem dJ11_charAt_1 : decode cJ11_charAt 1 = .ok (.aload_n 0, 1) := dk_42 (dk_at dksJ11_charAt_0 1 rfl rfl)
theorem dJ11_charAt_2 : decode cJ11_charAt 2 = .ok (.invokestatic 67, 3) := dk_184 0 67 (dk_at dksJ11_charAt_0 2 rfl rfl)
theorem dJ11_charAt_5 : decode cJ11_charAt 5 = .ok (.aload_n 0, 1) := dk_42 (dk_at dksJ11_charAt_0 5 rfl rfl)
theorem dJ11_charAt_6 : decode cJ11_charAt 6 = .ok (.iload_n 1, 1) := dk_27 (dk_at dksJ11_charAt_0 6 rfl rfl)
theorem dJ11_charAt_7 : decode cJ11_charAt 7 = .ok (.invokestatic 71, 3) := dk_184 0 71 (dk_at dksJ11_charAt_0 7 rfl rfl)
theorem dJ11_charAt_10 : decode cJ11_charAt 10 = .ok (.ireturn, 1) := dk_172 (dk_at dksJ11_charAt_0 10 rfl rfl)
abbrev cJ11_checkIndex : ByteArray := prog_32_method_91_code
def yJ11_checkIndex : MethodName := ⟨RJ11, "checkIndex", "(I[B)V"⟩
def dkwJ11_checkIndex_0 : List UInt8 := [26, 43, 184, 0, 48, 184, 1, 158, 177]
abbrev dktJ11_checkIndex_0 : List UInt8 := dkwJ11_checkIndex_0 ++ []
theorem dksJ11_checkIndex_0 : cJ11_checkIndex.data.toList.drop 0 = dktJ11_checkIndex_0 := by decide +kernel
theorem dJ11_checkIndex_0 : decode cJ11_checkIndex 0 = .ok (.iload_n 0, 1) := dk_26 (dk_at dksJ11_checkIndex_0 0 rfl rfl)
theorem dJ11_checkIndex_1 : decode cJ11_checkIndex 1 = .ok (.aload_n 1, 1) := dk_43 (dk_at dksJ11_checkIndex_0 1 rfl rfl)
theorem dJ11_checkIndex_2 : decode cJ11_checkIndex 2 = .ok (.invokestatic 48, 3) := dk_184 0 48 (dk_at dksJ11_checkIndex_0 2 rfl rfl)
theorem dJ11_checkIndex_5 : decode cJ11_checkIndex 5 = .ok (.invokestatic 414, 3) := dk_184 1 158 (dk_at dksJ11_checkIndex_0 5 rfl rfl)
theorem dJ11_checkIndex_8 : decode cJ11_checkIndex 8 = .ok (.return_, 1) := dk_177 (dk_at dksJ11_checkIndex_0 8 rfl rfl)
abbrev cJ11_length : ByteArray := prog_32_method_6_code
def yJ11_length : MethodName := ⟨RJ11, "length", "([B)I"⟩
def dkwJ11_length_0 : List UInt8 := [42, 190, 4, 122, 172]
abbrev dktJ11_length_0 : List UInt8 := dkwJ11_length_0 ++ []
theorem dksJ11_length_0 : cJ11_length.data.toList.drop 0 = dktJ11_length_0 := by decide +kernel
theorem dJ11_length_0 : decode cJ11_length 0 = .ok (.aload_n 0, 1) := dk_42 (dk_at dksJ11_length_0 0 rfl rfl)
theorem dJ11_length_1 : decode cJ11_length 1 = .ok (.arraylength, 1) := dk_190 (dk_at dksJ11_length_0 1 rfl rfl)
theorem dJ11_length_2 : decode cJ11_length 2 = .ok (.iconst 1, 1) := dk_4 (dk_at dksJ11_length_0 2 rfl rfl)
theorem dJ11_length_3 : decode cJ11_length 3 = .ok (.ishr, 1) := dk_122 (dk_at dksJ11_length_0 3 rfl rfl)
theorem dJ11_length_4 : decode cJ11_length 4 = .ok (.ireturn, 1) := dk_172 (dk_at dksJ11_length_0 4 rfl rfl)
abbrev cJ11_getChar : ByteArray := prog_32_method_5_code
def yJ11_getChar : MethodName := ⟨RJ11, "getChar", "([BI)C"⟩
def dkwJ11_getChar_2 : List UInt8 := [51, 17, 0, 255, 126, 178, 0, 63, 120, 128, 146, 172]
abbrev dktJ11_getChar_2 : List UInt8 := dkwJ11_getChar_2 ++ []
def dkwJ11_getChar_1 : List UInt8 := [183, 0, 56, 191, 27, 4, 120, 60, 42, 27, 132, 1, 1, 51, 17, 0, 255, 126, 178, 0, 59, 120, 42, 27]
abbrev dktJ11_getChar_1 : List UInt8 := dkwJ11_getChar_1 ++ dktJ11_getChar_2
def dkwJ11_getChar_0 : List UInt8 := [178, 0, 44, 154, 0, 25, 27, 155, 0, 11, 27, 42, 184, 0, 48, 161, 0, 13, 187, 0, 52, 89, 18, 54]
abbrev dktJ11_getChar_0 : List UInt8 := dkwJ11_getChar_0 ++ dktJ11_getChar_1
theorem dksJ11_getChar_0 : cJ11_getChar.data.toList.drop 0 = dktJ11_getChar_0 := by decide +kernel
theorem dksJ11_getChar_1 : cJ11_getChar.data.toList.drop 24 = dktJ11_getChar_1 := dk_seg dksJ11_getChar_0 24 rfl rfl
theorem dksJ11_getChar_2 : cJ11_getChar.data.toList.drop 48 = dktJ11_getChar_2 := dk_seg dksJ11_getChar_1 24 rfl rfl
theorem dJ11_getChar_0 : decode cJ11_getChar 0 = .ok (.getstatic 44, 3) := dk_178 0 44 (dk_at dksJ11_getChar_0 0 rfl rfl)
theorem dJ11_getChar_3 : decode cJ11_getChar 3 = .ok (.ifCond .ne 25, 3) := dk_154 0 25 (dk_at dksJ11_getChar_0 3 rfl rfl)
theorem dJ11_getChar_6 : decode cJ11_getChar 6 = .ok (.iload_n 1, 1) := dk_27 (dk_at dksJ11_getChar_0 6 rfl rfl)
theorem dJ11_getChar_7 : decode cJ11_getChar 7 = .ok (.ifCond .lt 11, 3) := dk_155 0 11 (dk_at dksJ11_getChar_0 7 rfl rfl)
theorem dJ11_getChar_10 : decode cJ11_getChar 10 = .ok (.iload_n 1, 1) := dk_27 (dk_at dksJ11_getChar_0 10 rfl rfl)
theorem dJ11_getChar_11 : decode cJ11_getChar 11 = .ok (.aload_n 0, 1) := dk_42 (dk_at dksJ11_getChar_0 11 rfl rfl)
theorem dJ11_getChar_12 : decode cJ11_getChar 12 = .ok (.invokestatic 48, 3) := dk_184 0 48 (dk_at dksJ11_getChar_0 12 rfl rfl)
theorem dJ11_getChar_15 : decode cJ11_getChar 15 = .ok (.if_icmp .lt 13, 3) := dk_161 0 13 (dk_at dksJ11_getChar_0 15 rfl rfl)
theorem dJ11_getChar_18 : decode cJ11_getChar 18 = .ok (.new 52, 3) := dk_187 0 52 (dk_at dksJ11_getChar_0 18 rfl rfl)
theorem dJ11_getChar_21 : decode cJ11_getChar 21 = .ok (.dup, 1) := dk_89 (dk_at dksJ11_getChar_0 21 rfl rfl)
theorem dJ11_getChar_22 : decode cJ11_getChar 22 = .ok (.ldc 54, 2) := dk_18 54 (dk_at dksJ11_getChar_0 22 rfl rfl)
theorem dJ11_getChar_24 : decode cJ11_getChar 24 = .ok (.invokespecial 56, 3) := dk_183 0 56 (dk_at dksJ11_getChar_1 0 rfl rfl)
theorem dJ11_getChar_27 : decode cJ11_getChar 27 = .ok (.athrow, 1) := dk_191 (dk_at dksJ11_getChar_1 3 rfl rfl)
theorem dJ11_getChar_28 : decode cJ11_getChar 28 = .ok (.iload_n 1, 1) := dk_27 (dk_at dksJ11_getChar_1 4 rfl rfl)
theorem dJ11_getChar_29 : decode cJ11_getChar 29 = .ok (.iconst 1, 1) := dk_4 (dk_at dksJ11_getChar_1 5 rfl rfl)
theorem dJ11_getChar_30 : decode cJ11_getChar 30 = .ok (.ishl, 1) := dk_120 (dk_at dksJ11_getChar_1 6 rfl rfl)
theorem dJ11_getChar_31 : decode cJ11_getChar 31 = .ok (.istore_n 1, 1) := dk_60 (dk_at dksJ11_getChar_1 7 rfl rfl)
theorem dJ11_getChar_32 : decode cJ11_getChar 32 = .ok (.aload_n 0, 1) := dk_42 (dk_at dksJ11_getChar_1 8 rfl rfl)
theorem dJ11_getChar_33 : decode cJ11_getChar 33 = .ok (.iload_n 1, 1) := dk_27 (dk_at dksJ11_getChar_1 9 rfl rfl)
theorem dJ11_getChar_34 : decode cJ11_getChar 34 = .ok (.iinc 1 1, 3) := dk_132 1 1 (dk_at dksJ11_getChar_1 10 rfl rfl)
theorem dJ11_getChar_37 : decode cJ11_getChar 37 = .ok (.baload, 1) := dk_51 (dk_at dksJ11_getChar_1 13 rfl rfl)
theorem dJ11_getChar_38 : decode cJ11_getChar 38 = .ok (.sipush 255, 3) := dk_17 0 255 (dk_at dksJ11_getChar_1 14 rfl rfl)
theorem dJ11_getChar_41 : decode cJ11_getChar 41 = .ok (.iand, 1) := dk_126 (dk_at dksJ11_getChar_1 17 rfl rfl)
theorem dJ11_getChar_42 : decode cJ11_getChar 42 = .ok (.getstatic 59, 3) := dk_178 0 59 (dk_at dksJ11_getChar_1 18 rfl rfl)
theorem dJ11_getChar_45 : decode cJ11_getChar 45 = .ok (.ishl, 1) := dk_120 (dk_at dksJ11_getChar_1 21 rfl rfl)
theorem dJ11_getChar_46 : decode cJ11_getChar 46 = .ok (.aload_n 0, 1) := dk_42 (dk_at dksJ11_getChar_1 22 rfl rfl)
theorem dJ11_getChar_47 : decode cJ11_getChar 47 = .ok (.iload_n 1, 1) := dk_27 (dk_at dksJ11_getChar_1 23 rfl rfl)
theorem dJ11_getChar_48 : decode cJ11_getChar 48 = .ok (.baload, 1) := dk_51 (dk_at dksJ11_getChar_2 0 rfl rfl)
theorem dJ11_getChar_49 : decode cJ11_getChar 49 = .ok (.sipush 255, 3) := dk_17 0 255 (dk_at dksJ11_getChar_2 1 rfl rfl)
theorem dJ11_getChar_52 : decode cJ11_getChar 52 = .ok (.iand, 1) := dk_126 (dk_at dksJ11_getChar_2 4 rfl rfl)
theorem dJ11_getChar_53 : decode cJ11_getChar 53 = .ok (.getstatic 63, 3) := dk_178 0 63 (dk_at dksJ11_getChar_2 5 rfl rfl)
theorem dJ11_getChar_56 : decode cJ11_getChar 56 = .ok (.ishl, 1) := dk_120 (dk_at dksJ11_getChar_2 8 rfl rfl)
theorem dJ11_getChar_57 : decode cJ11_getChar 57 = .ok (.ior, 1) := dk_128 (dk_at dksJ11_getChar_2 9 rfl rfl)
theorem dJ11_getChar_58 : decode cJ11_getChar 58 = .ok (.i2c, 1) := dk_146 (dk_at dksJ11_getChar_2 10 rfl rfl)
theorem dJ11_getChar_59 : decode cJ11_getChar 59 = .ok (.ireturn, 1) := dk_172 (dk_at dksJ11_getChar_2 11 rfl rfl)
theorem q123 : (Jvm.Cond.initialized "java/lang/StringUTF16") ∈ lw_all := lw_g (lw_at lw_m1 24 rfl) rfl
theorem q808 : (Jvm.Cond.static ({ cls := "java/lang/StringUTF16", name := "charAt", desc := "([BI)C" } : Jvm.MethodName)) ∈ lw_all := lw_g (lw_at lw_m3 229 rfl) rfl
theorem q809 : (Jvm.Cond.code ({ cls := "java/lang/StringUTF16", name := "charAt", desc := "([BI)C" } : Jvm.MethodName) prog_32_method_83_code (2 : Nat) (Option.some Jvm.ClassFile.FieldType.char)) ∈ lw_all := lw_g (lw_at lw_m3 230 rfl) rfl
theorem q810 : (Jvm.Cond.methodLink "java/lang/StringUTF16" (67 : Nat) ({ cls := "java/lang/StringUTF16", name := "checkIndex", desc := "(I[B)V" } : Jvm.MethodName)) ∈ lw_all := lw_g (lw_at lw_m3 231 rfl) rfl
theorem q811 : (Jvm.Cond.static ({ cls := "java/lang/StringUTF16", name := "checkIndex", desc := "(I[B)V" } : Jvm.MethodName)) ∈ lw_all := lw_g (lw_at lw_m3 232 rfl) rfl
theorem q812 : (Jvm.Cond.code ({ cls := "java/lang/StringUTF16", name := "checkIndex", desc := "(I[B)V" } : Jvm.MethodName) prog_32_method_91_code (2 : Nat) (Option.none : Option Jvm.ClassFile.FieldType)) ∈ lw_all := lw_g (lw_at lw_m3 233 rfl) rfl
theorem q813 : (Jvm.Cond.methodLink "java/lang/StringUTF16" (48 : Nat) ({ cls := "java/lang/StringUTF16", name := "length", desc := "([B)I" } : Jvm.MethodName)) ∈ lw_all := lw_g (lw_at lw_m3 234 rfl) rfl
theorem q814 : (Jvm.Cond.static ({ cls := "java/lang/StringUTF16", name := "length", desc := "([B)I" } : Jvm.MethodName)) ∈ lw_all := lw_g (lw_at lw_m3 235 rfl) rfl
theorem q815 : (Jvm.Cond.code ({ cls := "java/lang/StringUTF16", name := "length", desc := "([B)I" } : Jvm.MethodName) prog_32_method_6_code (1 : Nat) (Option.some Jvm.ClassFile.FieldType.int)) ∈ lw_all := lw_g (lw_at lw_m3 236 rfl) rfl
theorem q816 : (Jvm.Cond.methodLink "java/lang/StringUTF16" (414 : Nat) ({ cls := "java/lang/String", name := "checkIndex", desc := "(II)V" } : Jvm.MethodName)) ∈ lw_all := lw_g (lw_at lw_m3 237 rfl) rfl
theorem q817 : (Jvm.Cond.methodLink "java/lang/StringUTF16" (71 : Nat) ({ cls := "java/lang/StringUTF16", name := "getChar", desc := "([BI)C" } : Jvm.MethodName)) ∈ lw_all := lw_g (lw_at lw_m3 238 rfl) rfl
theorem q818 : (Jvm.Cond.static ({ cls := "java/lang/StringUTF16", name := "getChar", desc := "([BI)C" } : Jvm.MethodName)) ∈ lw_all := lw_g (lw_at lw_m3 239 rfl) rfl
theorem q819 : (Jvm.Cond.code ({ cls := "java/lang/StringUTF16", name := "getChar", desc := "([BI)C" } : Jvm.MethodName) prog_32_method_5_code (2 : Nat) (Option.some Jvm.ClassFile.FieldType.char)) ∈ lw_all := lw_g (lw_at lw_m4 0 rfl) rfl
theorem q820 : (Jvm.Cond.fieldLink "java/lang/StringUTF16" (44 : Nat) "java/lang/StringUTF16" "$assertionsDisabled" "Z") ∈ lw_all := lw_g (lw_at lw_m4 1 rfl) rfl
theorem q821 : (Jvm.Cond.laysStatic "java/lang/StringUTF16" "$assertionsDisabled" "Z") ∈ lw_tbl := lw_at lw_m4 2 rfl
theorem q822 : (Jvm.Cond.fieldLink "java/lang/StringUTF16" (59 : Nat) "java/lang/StringUTF16" "HI_BYTE_SHIFT" "I") ∈ lw_all := lw_g (lw_at lw_m4 3 rfl) rfl
theorem q823 : (Jvm.Cond.laysStatic "java/lang/StringUTF16" "HI_BYTE_SHIFT" "I") ∈ lw_tbl := lw_at lw_m4 4 rfl
theorem q824 : (Jvm.Cond.fieldLink "java/lang/StringUTF16" (63 : Nat) "java/lang/StringUTF16" "LO_BYTE_SHIFT" "I") ∈ lw_all := lw_g (lw_at lw_m4 5 rfl) rfl
theorem q825 : (Jvm.Cond.laysStatic "java/lang/StringUTF16" "LO_BYTE_SHIFT" "I") ∈ lw_tbl := lw_at lw_m4 6 rfl
/-! java/util/Objects -/
set_option maxRecDepth 100000
def RJ12 : String := "java/util/Objects"
abbrev cJ12_checkIndex : ByteArray := prog_44_method_17_code
def yJ12_checkIndex : MethodName := ⟨RJ12, "checkIndex", "(II)I"⟩
def dkwJ12_checkIndex_0 : List UInt8 := [26, 27, 1, 184, 0, 105, 172]
abbrev dktJ12_checkIndex_0 : List UInt8 := dkwJ12_checkIndex_0 ++ []
theorem dksJ12_checkIndex_0 : cJ12_checkIndex.data.toList.drop 0 = dktJ12_checkIndex_0 := by decide +kernel
theorem dJ12_checkIndex_0 : decode cJ12_checkIndex 0 = .ok (.iload_n 0, 1) := dk_26 (dk_at dksJ12_checkIndex_0 0 rfl rfl)
theorem dJ12_checkIndex_1 : decode cJ12_checkIndex 1 = .ok (.iload_n 1, 1) := dk_27 (dk_at dksJ12_checkIndex_0 1 rfl rfl)
theorem dJ12_checkIndex_2 : decode cJ12_checkIndex 2 = .ok (.aconst_null, 1) := dk_1 (dk_at dksJ12_checkIndex_0 2 rfl rfl)
theorem dJ12_checkIndex_3 : decode cJ12_checkIndex 3 = .ok (.invokestatic 105, 3) := dk_184 0 105 (dk_at dksJ12_checkIndex_0 3 rfl rfl)
theorem dJ12_checkIndex_6 : decode cJ12_checkIndex 6 = .ok (.ireturn, 1) := dk_172 (dk_at dksJ12_checkIndex_0 6 rfl rfl)
theorem q126 : (Jvm.Cond.initialized "java/util/Objects") ∈ lw_all := lw_g (lw_at lw_m1 27 rfl) rfl
theorem q442 : (Jvm.Cond.static ({ cls := "java/util/Objects", name := "checkIndex", desc := "(II)I" } : Jvm.MethodName)) ∈ lw_all := lw_g (lw_at lw_m2 103 rfl) rfl
theorem q443 : (Jvm.Cond.code ({ cls := "java/util/Objects", name := "checkIndex", desc := "(II)I" } : Jvm.MethodName) prog_44_method_17_code (2 : Nat) (Option.some Jvm.ClassFile.FieldType.int)) ∈ lw_all := lw_g (lw_at lw_m2 104 rfl) rfl
theorem q444 : (Jvm.Cond.methodLink "java/util/Objects" (105 : Nat) ({ cls := "jdk/internal/util/Preconditions", name := "checkIndex", desc := "(IILjava/util/function/BiFunction;)I" } : Jvm.MethodName)) ∈ lw_all := lw_g (lw_at lw_m2 105 rfl) rfl
/-! jdk/internal/util/ArraysSupport -/
set_option maxRecDepth 100000
def RJ13 : String := "jdk/internal/util/ArraysSupport"
abbrev cJ13_newLength : ByteArray := prog_47_method_27_code
def yJ13_newLength : MethodName := ⟨RJ13, "newLength", "(III)I"⟩
def dkwJ13_newLength_1 : List UInt8 := [184, 0, 201, 172]
abbrev dktJ13_newLength_1 : List UInt8 := dkwJ13_newLength_1 ++ []
def dkwJ13_newLength_0 : List UInt8 := [26, 27, 28, 184, 0, 194, 96, 62, 3, 29, 162, 0, 11, 29, 18, 200, 163, 0, 5, 29, 172, 26, 27]
abbrev dktJ13_newLength_0 : List UInt8 := dkwJ13_newLength_0 ++ dktJ13_newLength_1
theorem dksJ13_newLength_0 : cJ13_newLength.data.toList.drop 0 = dktJ13_newLength_0 := by decide +kernel
theorem dksJ13_newLength_1 : cJ13_newLength.data.toList.drop 23 = dktJ13_newLength_1 := dk_seg dksJ13_newLength_0 23 rfl rfl
theorem dJ13_newLength_0 : decode cJ13_newLength 0 = .ok (.iload_n 0, 1) := dk_26 (dk_at dksJ13_newLength_0 0 rfl rfl)
theorem dJ13_newLength_1 : decode cJ13_newLength 1 = .ok (.iload_n 1, 1) := dk_27 (dk_at dksJ13_newLength_0 1 rfl rfl)
theorem dJ13_newLength_2 : decode cJ13_newLength 2 = .ok (.iload_n 2, 1) := dk_28 (dk_at dksJ13_newLength_0 2 rfl rfl)
theorem dJ13_newLength_3 : decode cJ13_newLength 3 = .ok (.invokestatic 194, 3) := dk_184 0 194 (dk_at dksJ13_newLength_0 3 rfl rfl)
theorem dJ13_newLength_6 : decode cJ13_newLength 6 = .ok (.iadd, 1) := dk_96 (dk_at dksJ13_newLength_0 6 rfl rfl)
theorem dJ13_newLength_7 : decode cJ13_newLength 7 = .ok (.istore_n 3, 1) := dk_62 (dk_at dksJ13_newLength_0 7 rfl rfl)
theorem dJ13_newLength_8 : decode cJ13_newLength 8 = .ok (.iconst 0, 1) := dk_3 (dk_at dksJ13_newLength_0 8 rfl rfl)
theorem dJ13_newLength_9 : decode cJ13_newLength 9 = .ok (.iload_n 3, 1) := dk_29 (dk_at dksJ13_newLength_0 9 rfl rfl)
theorem dJ13_newLength_10 : decode cJ13_newLength 10 = .ok (.if_icmp .ge 11, 3) := dk_162 0 11 (dk_at dksJ13_newLength_0 10 rfl rfl)
theorem dJ13_newLength_13 : decode cJ13_newLength 13 = .ok (.iload_n 3, 1) := dk_29 (dk_at dksJ13_newLength_0 13 rfl rfl)
theorem dJ13_newLength_14 : decode cJ13_newLength 14 = .ok (.ldc 200, 2) := dk_18 200 (dk_at dksJ13_newLength_0 14 rfl rfl)
theorem dJ13_newLength_16 : decode cJ13_newLength 16 = .ok (.if_icmp .gt 5, 3) := dk_163 0 5 (dk_at dksJ13_newLength_0 16 rfl rfl)
theorem dJ13_newLength_19 : decode cJ13_newLength 19 = .ok (.iload_n 3, 1) := dk_29 (dk_at dksJ13_newLength_0 19 rfl rfl)
theorem dJ13_newLength_20 : decode cJ13_newLength 20 = .ok (.ireturn, 1) := dk_172 (dk_at dksJ13_newLength_0 20 rfl rfl)
theorem dJ13_newLength_21 : decode cJ13_newLength 21 = .ok (.iload_n 0, 1) := dk_26 (dk_at dksJ13_newLength_0 21 rfl rfl)
theorem dJ13_newLength_22 : decode cJ13_newLength 22 = .ok (.iload_n 1, 1) := dk_27 (dk_at dksJ13_newLength_0 22 rfl rfl)
theorem dJ13_newLength_23 : decode cJ13_newLength 23 = .ok (.invokestatic 201, 3) := dk_184 0 201 (dk_at dksJ13_newLength_1 0 rfl rfl)
theorem dJ13_newLength_26 : decode cJ13_newLength 26 = .ok (.ireturn, 1) := dk_172 (dk_at dksJ13_newLength_1 3 rfl rfl)
abbrev cJ13_hugeLength : ByteArray := prog_47_method_28_code
def yJ13_hugeLength : MethodName := ⟨RJ13, "hugeLength", "(II)I"⟩
def dkwJ13_hugeLength_2 : List UInt8 := [191, 28, 18, 200, 163, 0, 6, 18, 200, 172, 28, 172]
abbrev dktJ13_hugeLength_2 : List UInt8 := dkwJ13_hugeLength_2 ++ []
def dkwJ13_hugeLength_1 : List UInt8 := [26, 182, 0, 98, 18, 208, 182, 0, 94, 27, 182, 0, 98, 18, 210, 182, 0, 94, 182, 0, 101, 183, 0, 212]
abbrev dktJ13_hugeLength_1 : List UInt8 := dkwJ13_hugeLength_1 ++ dktJ13_hugeLength_2
def dkwJ13_hugeLength_0 : List UInt8 := [26, 27, 96, 61, 28, 156, 0, 44, 187, 0, 204, 89, 187, 0, 89, 89, 183, 0, 91, 18, 206, 182, 0, 94]
abbrev dktJ13_hugeLength_0 : List UInt8 := dkwJ13_hugeLength_0 ++ dktJ13_hugeLength_1
theorem dksJ13_hugeLength_0 : cJ13_hugeLength.data.toList.drop 0 = dktJ13_hugeLength_0 := by decide +kernel
theorem dksJ13_hugeLength_1 : cJ13_hugeLength.data.toList.drop 24 = dktJ13_hugeLength_1 := dk_seg dksJ13_hugeLength_0 24 rfl rfl
theorem dksJ13_hugeLength_2 : cJ13_hugeLength.data.toList.drop 48 = dktJ13_hugeLength_2 := dk_seg dksJ13_hugeLength_1 24 rfl rfl
theorem dJ13_hugeLength_0 : decode cJ13_hugeLength 0 = .ok (.iload_n 0, 1) := dk_26 (dk_at dksJ13_hugeLength_0 0 rfl rfl)
theorem dJ13_hugeLength_1 : decode cJ13_hugeLength 1 = .ok (.iload_n 1, 1) := dk_27 (dk_at dksJ13_hugeLength_0 1 rfl rfl)
theorem dJ13_hugeLength_2 : decode cJ13_hugeLength 2 = .ok (.iadd, 1) := dk_96 (dk_at dksJ13_hugeLength_0 2 rfl rfl)
theorem dJ13_hugeLength_3 : decode cJ13_hugeLength 3 = .ok (.istore_n 2, 1) := dk_61 (dk_at dksJ13_hugeLength_0 3 rfl rfl)
theorem dJ13_hugeLength_4 : decode cJ13_hugeLength 4 = .ok (.iload_n 2, 1) := dk_28 (dk_at dksJ13_hugeLength_0 4 rfl rfl)
theorem dJ13_hugeLength_5 : decode cJ13_hugeLength 5 = .ok (.ifCond .ge 44, 3) := dk_156 0 44 (dk_at dksJ13_hugeLength_0 5 rfl rfl)
theorem dJ13_hugeLength_8 : decode cJ13_hugeLength 8 = .ok (.new 204, 3) := dk_187 0 204 (dk_at dksJ13_hugeLength_0 8 rfl rfl)
theorem dJ13_hugeLength_11 : decode cJ13_hugeLength 11 = .ok (.dup, 1) := dk_89 (dk_at dksJ13_hugeLength_0 11 rfl rfl)
theorem dJ13_hugeLength_12 : decode cJ13_hugeLength 12 = .ok (.new 89, 3) := dk_187 0 89 (dk_at dksJ13_hugeLength_0 12 rfl rfl)
theorem dJ13_hugeLength_15 : decode cJ13_hugeLength 15 = .ok (.dup, 1) := dk_89 (dk_at dksJ13_hugeLength_0 15 rfl rfl)
theorem dJ13_hugeLength_16 : decode cJ13_hugeLength 16 = .ok (.invokespecial 91, 3) := dk_183 0 91 (dk_at dksJ13_hugeLength_0 16 rfl rfl)
theorem dJ13_hugeLength_19 : decode cJ13_hugeLength 19 = .ok (.ldc 206, 2) := dk_18 206 (dk_at dksJ13_hugeLength_0 19 rfl rfl)
theorem dJ13_hugeLength_21 : decode cJ13_hugeLength 21 = .ok (.invokevirtual 94, 3) := dk_182 0 94 (dk_at dksJ13_hugeLength_0 21 rfl rfl)
theorem dJ13_hugeLength_24 : decode cJ13_hugeLength 24 = .ok (.iload_n 0, 1) := dk_26 (dk_at dksJ13_hugeLength_1 0 rfl rfl)
theorem dJ13_hugeLength_25 : decode cJ13_hugeLength 25 = .ok (.invokevirtual 98, 3) := dk_182 0 98 (dk_at dksJ13_hugeLength_1 1 rfl rfl)
theorem dJ13_hugeLength_28 : decode cJ13_hugeLength 28 = .ok (.ldc 208, 2) := dk_18 208 (dk_at dksJ13_hugeLength_1 4 rfl rfl)
theorem dJ13_hugeLength_30 : decode cJ13_hugeLength 30 = .ok (.invokevirtual 94, 3) := dk_182 0 94 (dk_at dksJ13_hugeLength_1 6 rfl rfl)
theorem dJ13_hugeLength_33 : decode cJ13_hugeLength 33 = .ok (.iload_n 1, 1) := dk_27 (dk_at dksJ13_hugeLength_1 9 rfl rfl)
theorem dJ13_hugeLength_34 : decode cJ13_hugeLength 34 = .ok (.invokevirtual 98, 3) := dk_182 0 98 (dk_at dksJ13_hugeLength_1 10 rfl rfl)
theorem dJ13_hugeLength_37 : decode cJ13_hugeLength 37 = .ok (.ldc 210, 2) := dk_18 210 (dk_at dksJ13_hugeLength_1 13 rfl rfl)
theorem dJ13_hugeLength_39 : decode cJ13_hugeLength 39 = .ok (.invokevirtual 94, 3) := dk_182 0 94 (dk_at dksJ13_hugeLength_1 15 rfl rfl)
theorem dJ13_hugeLength_42 : decode cJ13_hugeLength 42 = .ok (.invokevirtual 101, 3) := dk_182 0 101 (dk_at dksJ13_hugeLength_1 18 rfl rfl)
theorem dJ13_hugeLength_45 : decode cJ13_hugeLength 45 = .ok (.invokespecial 212, 3) := dk_183 0 212 (dk_at dksJ13_hugeLength_1 21 rfl rfl)
theorem dJ13_hugeLength_48 : decode cJ13_hugeLength 48 = .ok (.athrow, 1) := dk_191 (dk_at dksJ13_hugeLength_2 0 rfl rfl)
theorem dJ13_hugeLength_49 : decode cJ13_hugeLength 49 = .ok (.iload_n 2, 1) := dk_28 (dk_at dksJ13_hugeLength_2 1 rfl rfl)
theorem dJ13_hugeLength_50 : decode cJ13_hugeLength 50 = .ok (.ldc 200, 2) := dk_18 200 (dk_at dksJ13_hugeLength_2 2 rfl rfl)
theorem dJ13_hugeLength_52 : decode cJ13_hugeLength 52 = .ok (.if_icmp .gt 6, 3) := dk_163 0 6 (dk_at dksJ13_hugeLength_2 4 rfl rfl)
theorem dJ13_hugeLength_55 : decode cJ13_hugeLength 55 = .ok (.ldc 200, 2) := dk_18 200 (dk_at dksJ13_hugeLength_2 7 rfl rfl)
theorem dJ13_hugeLength_57 : decode cJ13_hugeLength 57 = .ok (.ireturn, 1) := dk_172 (dk_at dksJ13_hugeLength_2 9 rfl rfl)
theorem dJ13_hugeLength_58 : decode cJ13_hugeLength 58 = .ok (.iload_n 2, 1) := dk_28 (dk_at dksJ13_hugeLength_2 10 rfl rfl)
theorem dJ13_hugeLength_59 : decode cJ13_hugeLength 59 = .ok (.ireturn, 1) := dk_172 (dk_at dksJ13_hugeLength_2 11 rfl rfl)
theorem q127 : (Jvm.Cond.initialized "jdk/internal/util/ArraysSupport") ∈ lw_all := lw_g (lw_at lw_m1 28 rfl) rfl
theorem q959 : (Jvm.Cond.static ({ cls := "jdk/internal/util/ArraysSupport", name := "newLength", desc := "(III)I" } : Jvm.MethodName)) ∈ lw_all := lw_g (lw_at lw_m4 140 rfl) rfl
theorem q960 : (Jvm.Cond.code ({ cls := "jdk/internal/util/ArraysSupport", name := "newLength", desc := "(III)I" } : Jvm.MethodName) prog_47_method_27_code (4 : Nat) (Option.some Jvm.ClassFile.FieldType.int)) ∈ lw_all := lw_g (lw_at lw_m4 141 rfl) rfl
theorem q961 : (Jvm.Cond.methodLink "jdk/internal/util/ArraysSupport" (194 : Nat) ({ cls := "java/lang/Math", name := "max", desc := "(II)I" } : Jvm.MethodName)) ∈ lw_all := lw_g (lw_at lw_m4 142 rfl) rfl
theorem q962 : (Jvm.Cond.constant "jdk/internal/util/ArraysSupport" (200 : Nat) (2147483639 : Int32)) ∈ lw_all := lw_g (lw_at lw_m4 143 rfl) rfl
theorem q963 : (Jvm.Cond.methodLink "jdk/internal/util/ArraysSupport" (201 : Nat) ({ cls := "jdk/internal/util/ArraysSupport", name := "hugeLength", desc := "(II)I" } : Jvm.MethodName)) ∈ lw_all := lw_g (lw_at lw_m4 144 rfl) rfl
theorem q964 : (Jvm.Cond.static ({ cls := "jdk/internal/util/ArraysSupport", name := "hugeLength", desc := "(II)I" } : Jvm.MethodName)) ∈ lw_all := lw_g (lw_at lw_m4 145 rfl) rfl
theorem q965 : (Jvm.Cond.code ({ cls := "jdk/internal/util/ArraysSupport", name := "hugeLength", desc := "(II)I" } : Jvm.MethodName) prog_47_method_28_code (3 : Nat) (Option.some Jvm.ClassFile.FieldType.int)) ∈ lw_all := lw_g (lw_at lw_m4 146 rfl) rfl
/-! java/util/Arrays -/
set_option maxRecDepth 100000
def RJ14 : String := "java/util/Arrays"
abbrev cJ14_copyOf : ByteArray := prog_40_method_119_code
def yJ14_copyOf : MethodName := ⟨RJ14, "copyOf", "([Ljava/lang/Object;I)[Ljava/lang/Object;"⟩
def dkwJ14_copyOf_0 : List UInt8 := [42, 27, 42, 182, 0, 86, 184, 1, 44, 176]
abbrev dktJ14_copyOf_0 : List UInt8 := dkwJ14_copyOf_0 ++ []
theorem dksJ14_copyOf_0 : cJ14_copyOf.data.toList.drop 0 = dktJ14_copyOf_0 := by decide +kernel
theorem dJ14_copyOf_0 : decode cJ14_copyOf 0 = .ok (.aload_n 0, 1) := dk_42 (dk_at dksJ14_copyOf_0 0 rfl rfl)
theorem dJ14_copyOf_1 : decode cJ14_copyOf 1 = .ok (.iload_n 1, 1) := dk_27 (dk_at dksJ14_copyOf_0 1 rfl rfl)
theorem dJ14_copyOf_2 : decode cJ14_copyOf 2 = .ok (.aload_n 0, 1) := dk_42 (dk_at dksJ14_copyOf_0 2 rfl rfl)
theorem dJ14_copyOf_3 : decode cJ14_copyOf 3 = .ok (.invokevirtual 86, 3) := dk_182 0 86 (dk_at dksJ14_copyOf_0 3 rfl rfl)
theorem dJ14_copyOf_6 : decode cJ14_copyOf 6 = .ok (.invokestatic 300, 3) := dk_184 1 44 (dk_at dksJ14_copyOf_0 6 rfl rfl)
theorem dJ14_copyOf_9 : decode cJ14_copyOf 9 = .ok (.areturn, 1) := dk_176 (dk_at dksJ14_copyOf_0 9 rfl rfl)
abbrev cJ14_copyOf_2 : ByteArray := prog_40_method_120_code
def yJ14_copyOf_2 : MethodName := ⟨RJ14, "copyOf", "([Ljava/lang/Object;ILjava/lang/Class;)[Ljava/lang/Object;"⟩
def dkwJ14_copyOf_2_1 : List UInt8 := [78, 42, 3, 45, 3, 42, 190, 27, 184, 1, 48, 184, 0, 150, 45, 176]
abbrev dktJ14_copyOf_2_1 : List UInt8 := dkwJ14_copyOf_2_1 ++ []
def dkwJ14_copyOf_2_0 : List UInt8 := [44, 18, 110, 166, 0, 10, 27, 189, 0, 2, 167, 0, 14, 44, 182, 0, 90, 27, 184, 0, 95, 192, 0, 110]
abbrev dktJ14_copyOf_2_0 : List UInt8 := dkwJ14_copyOf_2_0 ++ dktJ14_copyOf_2_1
theorem dksJ14_copyOf_2_0 : cJ14_copyOf_2.data.toList.drop 0 = dktJ14_copyOf_2_0 := by decide +kernel
theorem dksJ14_copyOf_2_1 : cJ14_copyOf_2.data.toList.drop 24 = dktJ14_copyOf_2_1 := dk_seg dksJ14_copyOf_2_0 24 rfl rfl
theorem dJ14_copyOf_2_0 : decode cJ14_copyOf_2 0 = .ok (.aload_n 2, 1) := dk_44 (dk_at dksJ14_copyOf_2_0 0 rfl rfl)
theorem dJ14_copyOf_2_1 : decode cJ14_copyOf_2 1 = .ok (.ldc 110, 2) := dk_18 110 (dk_at dksJ14_copyOf_2_0 1 rfl rfl)
theorem dJ14_copyOf_2_3 : decode cJ14_copyOf_2 3 = .ok (.if_acmp .ne 10, 3) := dk_166 0 10 (dk_at dksJ14_copyOf_2_0 3 rfl rfl)
theorem dJ14_copyOf_2_6 : decode cJ14_copyOf_2 6 = .ok (.iload_n 1, 1) := dk_27 (dk_at dksJ14_copyOf_2_0 6 rfl rfl)
theorem dJ14_copyOf_2_7 : decode cJ14_copyOf_2 7 = .ok (.anewarray 2, 3) := dk_189 0 2 (dk_at dksJ14_copyOf_2_0 7 rfl rfl)
theorem dJ14_copyOf_2_10 : decode cJ14_copyOf_2 10 = .ok (.goto 14, 3) := dk_167 0 14 (dk_at dksJ14_copyOf_2_0 10 rfl rfl)
theorem dJ14_copyOf_2_13 : decode cJ14_copyOf_2 13 = .ok (.aload_n 2, 1) := dk_44 (dk_at dksJ14_copyOf_2_0 13 rfl rfl)
theorem dJ14_copyOf_2_14 : decode cJ14_copyOf_2 14 = .ok (.invokevirtual 90, 3) := dk_182 0 90 (dk_at dksJ14_copyOf_2_0 14 rfl rfl)
theorem dJ14_copyOf_2_17 : decode cJ14_copyOf_2 17 = .ok (.iload_n 1, 1) := dk_27 (dk_at dksJ14_copyOf_2_0 17 rfl rfl)
theorem dJ14_copyOf_2_18 : decode cJ14_copyOf_2 18 = .ok (.invokestatic 95, 3) := dk_184 0 95 (dk_at dksJ14_copyOf_2_0 18 rfl rfl)
theorem dJ14_copyOf_2_21 : decode cJ14_copyOf_2 21 = .ok (.checkcast 110, 3) := dk_192 0 110 (dk_at dksJ14_copyOf_2_0 21 rfl rfl)
theorem dJ14_copyOf_2_24 : decode cJ14_copyOf_2 24 = .ok (.astore_n 3, 1) := dk_78 (dk_at dksJ14_copyOf_2_1 0 rfl rfl)
theorem dJ14_copyOf_2_25 : decode cJ14_copyOf_2 25 = .ok (.aload_n 0, 1) := dk_42 (dk_at dksJ14_copyOf_2_1 1 rfl rfl)
theorem dJ14_copyOf_2_26 : decode cJ14_copyOf_2 26 = .ok (.iconst 0, 1) := dk_3 (dk_at dksJ14_copyOf_2_1 2 rfl rfl)
theorem dJ14_copyOf_2_27 : decode cJ14_copyOf_2 27 = .ok (.aload_n 3, 1) := dk_45 (dk_at dksJ14_copyOf_2_1 3 rfl rfl)
theorem dJ14_copyOf_2_28 : decode cJ14_copyOf_2 28 = .ok (.iconst 0, 1) := dk_3 (dk_at dksJ14_copyOf_2_1 4 rfl rfl)
theorem dJ14_copyOf_2_29 : decode cJ14_copyOf_2 29 = .ok (.aload_n 0, 1) := dk_42 (dk_at dksJ14_copyOf_2_1 5 rfl rfl)
theorem dJ14_copyOf_2_30 : decode cJ14_copyOf_2 30 = .ok (.arraylength, 1) := dk_190 (dk_at dksJ14_copyOf_2_1 6 rfl rfl)
theorem dJ14_copyOf_2_31 : decode cJ14_copyOf_2 31 = .ok (.iload_n 1, 1) := dk_27 (dk_at dksJ14_copyOf_2_1 7 rfl rfl)
theorem dJ14_copyOf_2_32 : decode cJ14_copyOf_2 32 = .ok (.invokestatic 304, 3) := dk_184 1 48 (dk_at dksJ14_copyOf_2_1 8 rfl rfl)
theorem dJ14_copyOf_2_35 : decode cJ14_copyOf_2 35 = .ok (.invokestatic 150, 3) := dk_184 0 150 (dk_at dksJ14_copyOf_2_1 11 rfl rfl)
theorem dJ14_copyOf_2_38 : decode cJ14_copyOf_2 38 = .ok (.aload_n 3, 1) := dk_45 (dk_at dksJ14_copyOf_2_1 14 rfl rfl)
theorem dJ14_copyOf_2_39 : decode cJ14_copyOf_2 39 = .ok (.areturn, 1) := dk_176 (dk_at dksJ14_copyOf_2_1 15 rfl rfl)
theorem q128 : (Jvm.Cond.initialized "java/util/Arrays") ∈ lw_all := lw_g (lw_at lw_m1 29 rfl) rfl
theorem q581 : (Jvm.Cond.static ({ cls := "java/util/Arrays", name := "copyOf", desc := "([Ljava/lang/Object;I)[Ljava/lang/Object;" } : Jvm.MethodName)) ∈ lw_all := lw_g (lw_at lw_m3 2 rfl) rfl
theorem q582 : (Jvm.Cond.code ({ cls := "java/util/Arrays", name := "copyOf", desc := "([Ljava/lang/Object;I)[Ljava/lang/Object;" } : Jvm.MethodName) prog_40_method_119_code (2 : Nat) (Option.some (Jvm.ClassFile.FieldType.array (Jvm.ClassFile.FieldType.object "java/lang/Object")))) ∈ lw_all := lw_g (lw_at lw_m3 3 rfl) rfl
theorem q583 : (Jvm.Cond.methodLink "java/util/Arrays" (86 : Nat) ({ cls := "java/lang/Object", name := "getClass", desc := "()Ljava/lang/Class;" } : Jvm.MethodName)) ∈ lw_all := lw_g (lw_at lw_m3 4 rfl) rfl
theorem q606 : (Jvm.Cond.methodLink "java/util/Arrays" (300 : Nat) ({ cls := "java/util/Arrays", name := "copyOf", desc := "([Ljava/lang/Object;ILjava/lang/Class;)[Ljava/lang/Object;" } : Jvm.MethodName)) ∈ lw_all := lw_g (lw_at lw_m3 27 rfl) rfl
theorem q607 : (Jvm.Cond.static ({ cls := "java/util/Arrays", name := "copyOf", desc := "([Ljava/lang/Object;ILjava/lang/Class;)[Ljava/lang/Object;" } : Jvm.MethodName)) ∈ lw_all := lw_g (lw_at lw_m3 28 rfl) rfl
theorem q608 : (Jvm.Cond.code ({ cls := "java/util/Arrays", name := "copyOf", desc := "([Ljava/lang/Object;ILjava/lang/Class;)[Ljava/lang/Object;" } : Jvm.MethodName) prog_40_method_120_code (4 : Nat) (Option.some (Jvm.ClassFile.FieldType.array (Jvm.ClassFile.FieldType.object "java/lang/Object")))) ∈ lw_all := lw_g (lw_at lw_m3 29 rfl) rfl
theorem q609 : (Jvm.Cond.classLink "java/util/Arrays" (110 : Nat) "[Ljava/lang/Object;") ∈ lw_all := lw_g (lw_at lw_m3 30 rfl) rfl
theorem q611 : (Jvm.Cond.classLink "java/util/Arrays" (2 : Nat) "java/lang/Object") ∈ lw_all := lw_g (lw_at lw_m3 32 rfl) rfl
theorem q612 : (Jvm.Cond.methodLink "java/util/Arrays" (304 : Nat) ({ cls := "java/lang/Math", name := "min", desc := "(II)I" } : Jvm.MethodName)) ∈ lw_all := lw_g (lw_at lw_m3 33 rfl) rfl
theorem q615 : (Jvm.Cond.methodLink "java/util/Arrays" (150 : Nat) ({ cls := "java/lang/System", name := "arraycopy", desc := "(Ljava/lang/Object;ILjava/lang/Object;II)V" } : Jvm.MethodName)) ∈ lw_all := lw_g (lw_at lw_m3 36 rfl) rfl
/-! java/lang/Integer -/
set_option maxRecDepth 100000
def RJ15 : String := "java/lang/Integer"
abbrev cJ15_bitCount : ByteArray := prog_26_method_49_code
def yJ15_bitCount : MethodName := ⟨RJ15, "bitCount", "(I)I"⟩
def dkwJ15_bitCount_2 : List UInt8 := [26, 16, 63, 126, 172]
abbrev dktJ15_bitCount_2 : List UInt8 := dkwJ15_bitCount_2 ++ []
def dkwJ15_bitCount_1 : List UInt8 := [26, 26, 7, 124, 96, 19, 1, 11, 126, 59, 26, 26, 16, 8, 124, 96, 59, 26, 26, 16, 16, 124, 96, 59]
abbrev dktJ15_bitCount_1 : List UInt8 := dkwJ15_bitCount_1 ++ dktJ15_bitCount_2
def dkwJ15_bitCount_0 : List UInt8 := [26, 26, 4, 124, 19, 1, 9, 126, 100, 59, 26, 19, 1, 10, 126, 26, 5, 124, 19, 1, 10, 126, 96, 59]
abbrev dktJ15_bitCount_0 : List UInt8 := dkwJ15_bitCount_0 ++ dktJ15_bitCount_1
theorem dksJ15_bitCount_0 : cJ15_bitCount.data.toList.drop 0 = dktJ15_bitCount_0 := by decide +kernel
theorem dksJ15_bitCount_1 : cJ15_bitCount.data.toList.drop 24 = dktJ15_bitCount_1 := dk_seg dksJ15_bitCount_0 24 rfl rfl
theorem dksJ15_bitCount_2 : cJ15_bitCount.data.toList.drop 48 = dktJ15_bitCount_2 := dk_seg dksJ15_bitCount_1 24 rfl rfl
theorem dJ15_bitCount_0 : decode cJ15_bitCount 0 = .ok (.iload_n 0, 1) := dk_26 (dk_at dksJ15_bitCount_0 0 rfl rfl)
theorem dJ15_bitCount_1 : decode cJ15_bitCount 1 = .ok (.iload_n 0, 1) := dk_26 (dk_at dksJ15_bitCount_0 1 rfl rfl)
theorem dJ15_bitCount_2 : decode cJ15_bitCount 2 = .ok (.iconst 1, 1) := dk_4 (dk_at dksJ15_bitCount_0 2 rfl rfl)
theorem dJ15_bitCount_3 : decode cJ15_bitCount 3 = .ok (.iushr, 1) := dk_124 (dk_at dksJ15_bitCount_0 3 rfl rfl)
theorem dJ15_bitCount_4 : decode cJ15_bitCount 4 = .ok (.ldc_w 265, 3) := dk_19 1 9 (dk_at dksJ15_bitCount_0 4 rfl rfl)
theorem dJ15_bitCount_7 : decode cJ15_bitCount 7 = .ok (.iand, 1) := dk_126 (dk_at dksJ15_bitCount_0 7 rfl rfl)
theorem dJ15_bitCount_8 : decode cJ15_bitCount 8 = .ok (.isub, 1) := dk_100 (dk_at dksJ15_bitCount_0 8 rfl rfl)
theorem dJ15_bitCount_9 : decode cJ15_bitCount 9 = .ok (.istore_n 0, 1) := dk_59 (dk_at dksJ15_bitCount_0 9 rfl rfl)
theorem dJ15_bitCount_10 : decode cJ15_bitCount 10 = .ok (.iload_n 0, 1) := dk_26 (dk_at dksJ15_bitCount_0 10 rfl rfl)
theorem dJ15_bitCount_11 : decode cJ15_bitCount 11 = .ok (.ldc_w 266, 3) := dk_19 1 10 (dk_at dksJ15_bitCount_0 11 rfl rfl)
theorem dJ15_bitCount_14 : decode cJ15_bitCount 14 = .ok (.iand, 1) := dk_126 (dk_at dksJ15_bitCount_0 14 rfl rfl)
theorem dJ15_bitCount_15 : decode cJ15_bitCount 15 = .ok (.iload_n 0, 1) := dk_26 (dk_at dksJ15_bitCount_0 15 rfl rfl)
theorem dJ15_bitCount_16 : decode cJ15_bitCount 16 = .ok (.iconst 2, 1) := dk_5 (dk_at dksJ15_bitCount_0 16 rfl rfl)
theorem dJ15_bitCount_17 : decode cJ15_bitCount 17 = .ok (.iushr, 1) := dk_124 (dk_at dksJ15_bitCount_0 17 rfl rfl)
theorem dJ15_bitCount_18 : decode cJ15_bitCount 18 = .ok (.ldc_w 266, 3) := dk_19 1 10 (dk_at dksJ15_bitCount_0 18 rfl rfl)
theorem dJ15_bitCount_21 : decode cJ15_bitCount 21 = .ok (.iand, 1) := dk_126 (dk_at dksJ15_bitCount_0 21 rfl rfl)
theorem dJ15_bitCount_22 : decode cJ15_bitCount 22 = .ok (.iadd, 1) := dk_96 (dk_at dksJ15_bitCount_0 22 rfl rfl)
theorem dJ15_bitCount_23 : decode cJ15_bitCount 23 = .ok (.istore_n 0, 1) := dk_59 (dk_at dksJ15_bitCount_0 23 rfl rfl)
theorem dJ15_bitCount_24 : decode cJ15_bitCount 24 = .ok (.iload_n 0, 1) := dk_26 (dk_at dksJ15_bitCount_1 0 rfl rfl)
theorem dJ15_bitCount_25 : decode cJ15_bitCount 25 = .ok (.iload_n 0, 1) := dk_26 (dk_at dksJ15_bitCount_1 1 rfl rfl)
theorem dJ15_bitCount_26 : decode cJ15_bitCount 26 = .ok (.iconst 4, 1) := dk_7 (dk_at dksJ15_bitCount_1 2 rfl rfl)
theorem dJ15_bitCount_27 : decode cJ15_bitCount 27 = .ok (.iushr, 1) := dk_124 (dk_at dksJ15_bitCount_1 3 rfl rfl)
theorem dJ15_bitCount_28 : decode cJ15_bitCount 28 = .ok (.iadd, 1) := dk_96 (dk_at dksJ15_bitCount_1 4 rfl rfl)
theorem dJ15_bitCount_29 : decode cJ15_bitCount 29 = .ok (.ldc_w 267, 3) := dk_19 1 11 (dk_at dksJ15_bitCount_1 5 rfl rfl)
theorem dJ15_bitCount_32 : decode cJ15_bitCount 32 = .ok (.iand, 1) := dk_126 (dk_at dksJ15_bitCount_1 8 rfl rfl)
theorem dJ15_bitCount_33 : decode cJ15_bitCount 33 = .ok (.istore_n 0, 1) := dk_59 (dk_at dksJ15_bitCount_1 9 rfl rfl)
theorem dJ15_bitCount_34 : decode cJ15_bitCount 34 = .ok (.iload_n 0, 1) := dk_26 (dk_at dksJ15_bitCount_1 10 rfl rfl)
theorem dJ15_bitCount_35 : decode cJ15_bitCount 35 = .ok (.iload_n 0, 1) := dk_26 (dk_at dksJ15_bitCount_1 11 rfl rfl)
theorem dJ15_bitCount_36 : decode cJ15_bitCount 36 = .ok (.bipush 8, 2) := dk_16 8 (dk_at dksJ15_bitCount_1 12 rfl rfl)
theorem dJ15_bitCount_38 : decode cJ15_bitCount 38 = .ok (.iushr, 1) := dk_124 (dk_at dksJ15_bitCount_1 14 rfl rfl)
theorem dJ15_bitCount_39 : decode cJ15_bitCount 39 = .ok (.iadd, 1) := dk_96 (dk_at dksJ15_bitCount_1 15 rfl rfl)
theorem dJ15_bitCount_40 : decode cJ15_bitCount 40 = .ok (.istore_n 0, 1) := dk_59 (dk_at dksJ15_bitCount_1 16 rfl rfl)
theorem dJ15_bitCount_41 : decode cJ15_bitCount 41 = .ok (.iload_n 0, 1) := dk_26 (dk_at dksJ15_bitCount_1 17 rfl rfl)
theorem dJ15_bitCount_42 : decode cJ15_bitCount 42 = .ok (.iload_n 0, 1) := dk_26 (dk_at dksJ15_bitCount_1 18 rfl rfl)
theorem dJ15_bitCount_43 : decode cJ15_bitCount 43 = .ok (.bipush 16, 2) := dk_16 16 (dk_at dksJ15_bitCount_1 19 rfl rfl)
theorem dJ15_bitCount_45 : decode cJ15_bitCount 45 = .ok (.iushr, 1) := dk_124 (dk_at dksJ15_bitCount_1 21 rfl rfl)
theorem dJ15_bitCount_46 : decode cJ15_bitCount 46 = .ok (.iadd, 1) := dk_96 (dk_at dksJ15_bitCount_1 22 rfl rfl)
theorem dJ15_bitCount_47 : decode cJ15_bitCount 47 = .ok (.istore_n 0, 1) := dk_59 (dk_at dksJ15_bitCount_1 23 rfl rfl)
theorem dJ15_bitCount_48 : decode cJ15_bitCount 48 = .ok (.iload_n 0, 1) := dk_26 (dk_at dksJ15_bitCount_2 0 rfl rfl)
theorem dJ15_bitCount_49 : decode cJ15_bitCount 49 = .ok (.bipush 63, 2) := dk_16 63 (dk_at dksJ15_bitCount_2 1 rfl rfl)
theorem dJ15_bitCount_51 : decode cJ15_bitCount 51 = .ok (.iand, 1) := dk_126 (dk_at dksJ15_bitCount_2 3 rfl rfl)
theorem dJ15_bitCount_52 : decode cJ15_bitCount 52 = .ok (.ireturn, 1) := dk_172 (dk_at dksJ15_bitCount_2 4 rfl rfl)
abbrev cJ15_numberOfTrailingZeros : ByteArray := prog_26_method_48_code
def yJ15_numberOfTrailingZeros : MethodName := ⟨RJ15, "numberOfTrailingZeros", "(I)I"⟩
def dkwJ15_numberOfTrailingZeros_3 : List UInt8 := [5, 124, 59, 27, 26, 4, 124, 96, 172]
abbrev dktJ15_numberOfTrailingZeros_3 : List UInt8 := dkwJ15_numberOfTrailingZeros_3 ++ []
def dkwJ15_numberOfTrailingZeros_2 : List UInt8 := [124, 59, 26, 16, 16, 164, 0, 10, 132, 1, 4, 26, 7, 124, 59, 26, 7, 164, 0, 10, 132, 1, 2, 26]
abbrev dktJ15_numberOfTrailingZeros_2 : List UInt8 := dkwJ15_numberOfTrailingZeros_2 ++ dktJ15_numberOfTrailingZeros_3
def dkwJ15_numberOfTrailingZeros_1 : List UInt8 := [164, 0, 11, 132, 1, 16, 26, 16, 16, 124, 59, 26, 17, 1, 0, 164, 0, 11, 132, 1, 8, 26, 16, 8]
abbrev dktJ15_numberOfTrailingZeros_1 : List UInt8 := dkwJ15_numberOfTrailingZeros_1 ++ dktJ15_numberOfTrailingZeros_2
def dkwJ15_numberOfTrailingZeros_0 : List UInt8 := [26, 2, 130, 26, 4, 100, 126, 59, 26, 157, 0, 8, 26, 16, 32, 126, 172, 4, 60, 26, 19, 1, 8]
abbrev dktJ15_numberOfTrailingZeros_0 : List UInt8 := dkwJ15_numberOfTrailingZeros_0 ++ dktJ15_numberOfTrailingZeros_1
theorem dksJ15_numberOfTrailingZeros_0 : cJ15_numberOfTrailingZeros.data.toList.drop 0 = dktJ15_numberOfTrailingZeros_0 := by decide +kernel
theorem dksJ15_numberOfTrailingZeros_1 : cJ15_numberOfTrailingZeros.data.toList.drop 23 = dktJ15_numberOfTrailingZeros_1 := dk_seg dksJ15_numberOfTrailingZeros_0 23 rfl rfl
theorem dksJ15_numberOfTrailingZeros_2 : cJ15_numberOfTrailingZeros.data.toList.drop 47 = dktJ15_numberOfTrailingZeros_2 := dk_seg dksJ15_numberOfTrailingZeros_1 24 rfl rfl
theorem dksJ15_numberOfTrailingZeros_3 : cJ15_numberOfTrailingZeros.data.toList.drop 71 = dktJ15_numberOfTrailingZeros_3 := dk_seg dksJ15_numberOfTrailingZeros_2 24 rfl rfl
theorem dJ15_numberOfTrailingZeros_0 : decode cJ15_numberOfTrailingZeros 0 = .ok (.iload_n 0, 1) := dk_26 (dk_at dksJ15_numberOfTrailingZeros_0 0 rfl rfl)
theorem dJ15_numberOfTrailingZeros_1 : decode cJ15_numberOfTrailingZeros 1 = .ok (.iconst (-1), 1) := dk_2 (dk_at dksJ15_numberOfTrailingZeros_0 1 rfl rfl)
theorem dJ15_numberOfTrailingZeros_2 : decode cJ15_numberOfTrailingZeros 2 = .ok (.ixor, 1) := dk_130 (dk_at dksJ15_numberOfTrailingZeros_0 2 rfl rfl)
theorem dJ15_numberOfTrailingZeros_3 : decode cJ15_numberOfTrailingZeros 3 = .ok (.iload_n 0, 1) := dk_26 (dk_at dksJ15_numberOfTrailingZeros_0 3 rfl rfl)
theorem dJ15_numberOfTrailingZeros_4 : decode cJ15_numberOfTrailingZeros 4 = .ok (.iconst 1, 1) := dk_4 (dk_at dksJ15_numberOfTrailingZeros_0 4 rfl rfl)
theorem dJ15_numberOfTrailingZeros_5 : decode cJ15_numberOfTrailingZeros 5 = .ok (.isub, 1) := dk_100 (dk_at dksJ15_numberOfTrailingZeros_0 5 rfl rfl)
theorem dJ15_numberOfTrailingZeros_6 : decode cJ15_numberOfTrailingZeros 6 = .ok (.iand, 1) := dk_126 (dk_at dksJ15_numberOfTrailingZeros_0 6 rfl rfl)
theorem dJ15_numberOfTrailingZeros_7 : decode cJ15_numberOfTrailingZeros 7 = .ok (.istore_n 0, 1) := dk_59 (dk_at dksJ15_numberOfTrailingZeros_0 7 rfl rfl)
theorem dJ15_numberOfTrailingZeros_8 : decode cJ15_numberOfTrailingZeros 8 = .ok (.iload_n 0, 1) := dk_26 (dk_at dksJ15_numberOfTrailingZeros_0 8 rfl rfl)
theorem dJ15_numberOfTrailingZeros_9 : decode cJ15_numberOfTrailingZeros 9 = .ok (.ifCond .gt 8, 3) := dk_157 0 8 (dk_at dksJ15_numberOfTrailingZeros_0 9 rfl rfl)
theorem dJ15_numberOfTrailingZeros_12 : decode cJ15_numberOfTrailingZeros 12 = .ok (.iload_n 0, 1) := dk_26 (dk_at dksJ15_numberOfTrailingZeros_0 12 rfl rfl)
theorem dJ15_numberOfTrailingZeros_13 : decode cJ15_numberOfTrailingZeros 13 = .ok (.bipush 32, 2) := dk_16 32 (dk_at dksJ15_numberOfTrailingZeros_0 13 rfl rfl)
theorem dJ15_numberOfTrailingZeros_15 : decode cJ15_numberOfTrailingZeros 15 = .ok (.iand, 1) := dk_126 (dk_at dksJ15_numberOfTrailingZeros_0 15 rfl rfl)
theorem dJ15_numberOfTrailingZeros_16 : decode cJ15_numberOfTrailingZeros 16 = .ok (.ireturn, 1) := dk_172 (dk_at dksJ15_numberOfTrailingZeros_0 16 rfl rfl)
theorem dJ15_numberOfTrailingZeros_17 : decode cJ15_numberOfTrailingZeros 17 = .ok (.iconst 1, 1) := dk_4 (dk_at dksJ15_numberOfTrailingZeros_0 17 rfl rfl)
theorem dJ15_numberOfTrailingZeros_18 : decode cJ15_numberOfTrailingZeros 18 = .ok (.istore_n 1, 1) := dk_60 (dk_at dksJ15_numberOfTrailingZeros_0 18 rfl rfl)
theorem dJ15_numberOfTrailingZeros_19 : decode cJ15_numberOfTrailingZeros 19 = .ok (.iload_n 0, 1) := dk_26 (dk_at dksJ15_numberOfTrailingZeros_0 19 rfl rfl)
theorem dJ15_numberOfTrailingZeros_20 : decode cJ15_numberOfTrailingZeros 20 = .ok (.ldc_w 264, 3) := dk_19 1 8 (dk_at dksJ15_numberOfTrailingZeros_0 20 rfl rfl)
theorem dJ15_numberOfTrailingZeros_23 : decode cJ15_numberOfTrailingZeros 23 = .ok (.if_icmp .le 11, 3) := dk_164 0 11 (dk_at dksJ15_numberOfTrailingZeros_1 0 rfl rfl)
theorem dJ15_numberOfTrailingZeros_26 : decode cJ15_numberOfTrailingZeros 26 = .ok (.iinc 1 16, 3) := dk_132 1 16 (dk_at dksJ15_numberOfTrailingZeros_1 3 rfl rfl)
theorem dJ15_numberOfTrailingZeros_29 : decode cJ15_numberOfTrailingZeros 29 = .ok (.iload_n 0, 1) := dk_26 (dk_at dksJ15_numberOfTrailingZeros_1 6 rfl rfl)
theorem dJ15_numberOfTrailingZeros_30 : decode cJ15_numberOfTrailingZeros 30 = .ok (.bipush 16, 2) := dk_16 16 (dk_at dksJ15_numberOfTrailingZeros_1 7 rfl rfl)
theorem dJ15_numberOfTrailingZeros_32 : decode cJ15_numberOfTrailingZeros 32 = .ok (.iushr, 1) := dk_124 (dk_at dksJ15_numberOfTrailingZeros_1 9 rfl rfl)
theorem dJ15_numberOfTrailingZeros_33 : decode cJ15_numberOfTrailingZeros 33 = .ok (.istore_n 0, 1) := dk_59 (dk_at dksJ15_numberOfTrailingZeros_1 10 rfl rfl)
theorem dJ15_numberOfTrailingZeros_34 : decode cJ15_numberOfTrailingZeros 34 = .ok (.iload_n 0, 1) := dk_26 (dk_at dksJ15_numberOfTrailingZeros_1 11 rfl rfl)
theorem dJ15_numberOfTrailingZeros_35 : decode cJ15_numberOfTrailingZeros 35 = .ok (.sipush 256, 3) := dk_17 1 0 (dk_at dksJ15_numberOfTrailingZeros_1 12 rfl rfl)
theorem dJ15_numberOfTrailingZeros_38 : decode cJ15_numberOfTrailingZeros 38 = .ok (.if_icmp .le 11, 3) := dk_164 0 11 (dk_at dksJ15_numberOfTrailingZeros_1 15 rfl rfl)
theorem dJ15_numberOfTrailingZeros_41 : decode cJ15_numberOfTrailingZeros 41 = .ok (.iinc 1 8, 3) := dk_132 1 8 (dk_at dksJ15_numberOfTrailingZeros_1 18 rfl rfl)
theorem dJ15_numberOfTrailingZeros_44 : decode cJ15_numberOfTrailingZeros 44 = .ok (.iload_n 0, 1) := dk_26 (dk_at dksJ15_numberOfTrailingZeros_1 21 rfl rfl)
theorem dJ15_numberOfTrailingZeros_45 : decode cJ15_numberOfTrailingZeros 45 = .ok (.bipush 8, 2) := dk_16 8 (dk_at dksJ15_numberOfTrailingZeros_1 22 rfl rfl)
theorem dJ15_numberOfTrailingZeros_47 : decode cJ15_numberOfTrailingZeros 47 = .ok (.iushr, 1) := dk_124 (dk_at dksJ15_numberOfTrailingZeros_2 0 rfl rfl)
theorem dJ15_numberOfTrailingZeros_48 : decode cJ15_numberOfTrailingZeros 48 = .ok (.istore_n 0, 1) := dk_59 (dk_at dksJ15_numberOfTrailingZeros_2 1 rfl rfl)
theorem dJ15_numberOfTrailingZeros_49 : decode cJ15_numberOfTrailingZeros 49 = .ok (.iload_n 0, 1) := dk_26 (dk_at dksJ15_numberOfTrailingZeros_2 2 rfl rfl)
theorem dJ15_numberOfTrailingZeros_50 : decode cJ15_numberOfTrailingZeros 50 = .ok (.bipush 16, 2) := dk_16 16 (dk_at dksJ15_numberOfTrailingZeros_2 3 rfl rfl)
theorem dJ15_numberOfTrailingZeros_52 : decode cJ15_numberOfTrailingZeros 52 = .ok (.if_icmp .le 10, 3) := dk_164 0 10 (dk_at dksJ15_numberOfTrailingZeros_2 5 rfl rfl)
theorem dJ15_numberOfTrailingZeros_55 : decode cJ15_numberOfTrailingZeros 55 = .ok (.iinc 1 4, 3) := dk_132 1 4 (dk_at dksJ15_numberOfTrailingZeros_2 8 rfl rfl)
theorem dJ15_numberOfTrailingZeros_58 : decode cJ15_numberOfTrailingZeros 58 = .ok (.iload_n 0, 1) := dk_26 (dk_at dksJ15_numberOfTrailingZeros_2 11 rfl rfl)
theorem dJ15_numberOfTrailingZeros_59 : decode cJ15_numberOfTrailingZeros 59 = .ok (.iconst 4, 1) := dk_7 (dk_at dksJ15_numberOfTrailingZeros_2 12 rfl rfl)
theorem dJ15_numberOfTrailingZeros_60 : decode cJ15_numberOfTrailingZeros 60 = .ok (.iushr, 1) := dk_124 (dk_at dksJ15_numberOfTrailingZeros_2 13 rfl rfl)
theorem dJ15_numberOfTrailingZeros_61 : decode cJ15_numberOfTrailingZeros 61 = .ok (.istore_n 0, 1) := dk_59 (dk_at dksJ15_numberOfTrailingZeros_2 14 rfl rfl)
theorem dJ15_numberOfTrailingZeros_62 : decode cJ15_numberOfTrailingZeros 62 = .ok (.iload_n 0, 1) := dk_26 (dk_at dksJ15_numberOfTrailingZeros_2 15 rfl rfl)
theorem dJ15_numberOfTrailingZeros_63 : decode cJ15_numberOfTrailingZeros 63 = .ok (.iconst 4, 1) := dk_7 (dk_at dksJ15_numberOfTrailingZeros_2 16 rfl rfl)
theorem dJ15_numberOfTrailingZeros_64 : decode cJ15_numberOfTrailingZeros 64 = .ok (.if_icmp .le 10, 3) := dk_164 0 10 (dk_at dksJ15_numberOfTrailingZeros_2 17 rfl rfl)
theorem dJ15_numberOfTrailingZeros_67 : decode cJ15_numberOfTrailingZeros 67 = .ok (.iinc 1 2, 3) := dk_132 1 2 (dk_at dksJ15_numberOfTrailingZeros_2 20 rfl rfl)
theorem dJ15_numberOfTrailingZeros_70 : decode cJ15_numberOfTrailingZeros 70 = .ok (.iload_n 0, 1) := dk_26 (dk_at dksJ15_numberOfTrailingZeros_2 23 rfl rfl)
theorem dJ15_numberOfTrailingZeros_71 : decode cJ15_numberOfTrailingZeros 71 = .ok (.iconst 2, 1) := dk_5 (dk_at dksJ15_numberOfTrailingZeros_3 0 rfl rfl)
theorem dJ15_numberOfTrailingZeros_72 : decode cJ15_numberOfTrailingZeros 72 = .ok (.iushr, 1) := dk_124 (dk_at dksJ15_numberOfTrailingZeros_3 1 rfl rfl)
theorem dJ15_numberOfTrailingZeros_73 : decode cJ15_numberOfTrailingZeros 73 = .ok (.istore_n 0, 1) := dk_59 (dk_at dksJ15_numberOfTrailingZeros_3 2 rfl rfl)
theorem dJ15_numberOfTrailingZeros_74 : decode cJ15_numberOfTrailingZeros 74 = .ok (.iload_n 1, 1) := dk_27 (dk_at dksJ15_numberOfTrailingZeros_3 3 rfl rfl)
theorem dJ15_numberOfTrailingZeros_75 : decode cJ15_numberOfTrailingZeros 75 = .ok (.iload_n 0, 1) := dk_26 (dk_at dksJ15_numberOfTrailingZeros_3 4 rfl rfl)
theorem dJ15_numberOfTrailingZeros_76 : decode cJ15_numberOfTrailingZeros 76 = .ok (.iconst 1, 1) := dk_4 (dk_at dksJ15_numberOfTrailingZeros_3 5 rfl rfl)
theorem dJ15_numberOfTrailingZeros_77 : decode cJ15_numberOfTrailingZeros 77 = .ok (.iushr, 1) := dk_124 (dk_at dksJ15_numberOfTrailingZeros_3 6 rfl rfl)
theorem dJ15_numberOfTrailingZeros_78 : decode cJ15_numberOfTrailingZeros 78 = .ok (.iadd, 1) := dk_96 (dk_at dksJ15_numberOfTrailingZeros_3 7 rfl rfl)
theorem dJ15_numberOfTrailingZeros_79 : decode cJ15_numberOfTrailingZeros 79 = .ok (.ireturn, 1) := dk_172 (dk_at dksJ15_numberOfTrailingZeros_3 8 rfl rfl)
theorem q133 : (Jvm.Cond.initialized "java/lang/Integer") ∈ lw_all := lw_g (lw_at lw_m1 34 rfl) rfl
theorem q459 : (Jvm.Cond.static ({ cls := "java/lang/Integer", name := "bitCount", desc := "(I)I" } : Jvm.MethodName)) ∈ lw_all := lw_g (lw_at lw_m2 120 rfl) rfl
theorem q460 : (Jvm.Cond.code ({ cls := "java/lang/Integer", name := "bitCount", desc := "(I)I" } : Jvm.MethodName) prog_26_method_49_code (1 : Nat) (Option.some Jvm.ClassFile.FieldType.int)) ∈ lw_all := lw_g (lw_at lw_m2 121 rfl) rfl
theorem q461 : (Jvm.Cond.constant "java/lang/Integer" (265 : Nat) (1431655765 : Int32)) ∈ lw_all := lw_g (lw_at lw_m2 122 rfl) rfl
theorem q462 : (Jvm.Cond.constant "java/lang/Integer" (266 : Nat) (858993459 : Int32)) ∈ lw_all := lw_g (lw_at lw_m2 123 rfl) rfl
theorem q463 : (Jvm.Cond.constant "java/lang/Integer" (267 : Nat) (252645135 : Int32)) ∈ lw_all := lw_g (lw_at lw_m2 124 rfl) rfl
theorem q1344 : (Jvm.Cond.static ({ cls := "java/lang/Integer", name := "numberOfTrailingZeros", desc := "(I)I" } : Jvm.MethodName)) ∈ lw_all := lw_g (lw_at lw_m6 45 rfl) rfl
theorem q1345 : (Jvm.Cond.code ({ cls := "java/lang/Integer", name := "numberOfTrailingZeros", desc := "(I)I" } : Jvm.MethodName) prog_26_method_48_code (2 : Nat) (Option.some Jvm.ClassFile.FieldType.int)) ∈ lw_all := lw_g (lw_at lw_m6 46 rfl) rfl
theorem q1346 : (Jvm.Cond.constant "java/lang/Integer" (264 : Nat) (65536 : Int32)) ∈ lw_all := lw_g (lw_at lw_m6 47 rfl) rfl
/-! java/util/NoSuchElementException -/
set_option maxRecDepth 100000
def RJ16 : String := "java/util/NoSuchElementException"
def TJ16 : u_T := fun k => match k with
  | 0 => ("java/lang/Throwable", "cause", "Ljava/lang/Throwable;", false)
  | 1 => ("java/lang/Throwable", "stackTrace", "[Ljava/lang/StackTraceElement;", false)
  | 2 => ("java/lang/Throwable", "suppressedExceptions", "Ljava/util/List;", false)
  | 3 => ("java/lang/Throwable", "detailMessage", "Ljava/lang/String;", false)
  | 4 => ("java/lang/Throwable", "backtrace", "Ljava/lang/Object;", false)
  | _ => ("java/lang/Throwable", "depth", "I", false)
def tyJ16 : Nat → FieldType := fun k => match k with
  | 0 => .object "java/lang/Throwable"
  | 1 => .array (.object "java/lang/StackTraceElement")
  | 2 => .object "java/util/List"
  | 3 => .object "java/lang/String"
  | 4 => .object "java/lang/Object"
  | _ => .int
abbrev wsJ160 : List Cond := u_ws RJ16 TJ16 6
theorem nmJ16 : ∀ a, a < 6 → ∀ b, b < 6 → a ≠ b → (TJ16 a).2.1 ≠ (TJ16 b).2.1 := by decide +kernel
theorem tyJ16_ok : ∀ k, k < 6 → parseFieldDescriptor (TJ16 k).2.2.1 = some (tyJ16 k) := by decide +kernel
abbrev cJ16_init : ByteArray := prog_43_method_1_code
def yJ16_init : MethodName := ⟨RJ16, "<init>", "()V"⟩
theorem dJ16_init_0 : decode cJ16_init 0 = .ok (.aload_n 0, 1) := by decide +kernel
theorem dJ16_init_1 : decode cJ16_init 1 = .ok (.invokespecial 1, 3) := by decide +kernel
theorem dJ16_init_4 : decode cJ16_init 4 = .ok (.return_, 1) := by decide +kernel
theorem q134 : (Jvm.Cond.initialized "java/util/NoSuchElementException") ∈ lw_all := lw_g (lw_at lw_m1 35 rfl) rfl
theorem q604 : (Jvm.Cond.selects "java/util/NoSuchElementException" ({ cls := "java/lang/Object", name := "getClass", desc := "()Ljava/lang/Class;" } : Jvm.MethodName) ({ cls := "java/lang/Object", name := "getClass", desc := "()Ljava/lang/Class;" } : Jvm.MethodName)) ∈ lw_all := lw_g (lw_at lw_m3 25 rfl) rfl
theorem q677 : (Jvm.Cond.selects "java/util/NoSuchElementException" ({ cls := "java/lang/Throwable", name := "fillInStackTrace", desc := "()Ljava/lang/Throwable;" } : Jvm.MethodName) ({ cls := "java/lang/Throwable", name := "fillInStackTrace", desc := "()Ljava/lang/Throwable;" } : Jvm.MethodName)) ∈ lw_all := lw_g (lw_at lw_m3 98 rfl) rfl
theorem q1068 : (Jvm.Cond.instantiable "java/util/NoSuchElementException" (6 : Nat)) ∈ lw_all := lw_g (lw_at lw_m5 9 rfl) rfl
theorem q1069 : (Jvm.Cond.castable "java/util/NoSuchElementException" "java/util/NoSuchElementException") ∈ lw_tbl := lw_at lw_m5 10 rfl
theorem q1070 : (Jvm.Cond.selects "java/util/NoSuchElementException" ({ cls := "java/lang/Throwable", name := "fillInStackTrace", desc := "(I)Ljava/lang/Throwable;" } : Jvm.MethodName) ({ cls := "java/lang/Throwable", name := "fillInStackTrace", desc := "(I)Ljava/lang/Throwable;" } : Jvm.MethodName)) ∈ lw_all := lw_g (lw_at lw_m5 11 rfl) rfl
theorem q1071 : (Jvm.Cond.lays "java/util/NoSuchElementException" "java/lang/Throwable" "cause" "Ljava/lang/Throwable;") ∈ lw_all := lw_g (lw_at lw_m5 12 rfl) rfl
theorem q1072 : (Jvm.Cond.lays "java/util/NoSuchElementException" "java/lang/Throwable" "stackTrace" "[Ljava/lang/StackTraceElement;") ∈ lw_all := lw_g (lw_at lw_m5 13 rfl) rfl
theorem q1073 : (Jvm.Cond.lays "java/util/NoSuchElementException" "java/lang/Throwable" "suppressedExceptions" "Ljava/util/List;") ∈ lw_all := lw_g (lw_at lw_m5 14 rfl) rfl
theorem q1074 : (Jvm.Cond.lays "java/util/NoSuchElementException" "java/lang/Throwable" "detailMessage" "Ljava/lang/String;") ∈ lw_all := lw_g (lw_at lw_m5 15 rfl) rfl
theorem q1075 : (Jvm.Cond.lays "java/util/NoSuchElementException" "java/lang/Throwable" "backtrace" "Ljava/lang/Object;") ∈ lw_all := lw_g (lw_at lw_m5 16 rfl) rfl
theorem q1077 : (Jvm.Cond.instanceMethod ({ cls := "java/util/NoSuchElementException", name := "<init>", desc := "()V" } : Jvm.MethodName)) ∈ lw_all := lw_g (lw_at lw_m5 18 rfl) rfl
theorem q1078 : (Jvm.Cond.code ({ cls := "java/util/NoSuchElementException", name := "<init>", desc := "()V" } : Jvm.MethodName) prog_43_method_1_code (1 : Nat) (Option.none : Option Jvm.ClassFile.FieldType)) ∈ lw_all := lw_g (lw_at lw_m5 19 rfl) rfl
theorem q1079 : (Jvm.Cond.methodLink "java/util/NoSuchElementException" (1 : Nat) ({ cls := "java/lang/RuntimeException", name := "<init>", desc := "()V" } : Jvm.MethodName)) ∈ lw_all := lw_g (lw_at lw_m5 20 rfl) rfl
theorem q1080 : (Jvm.Cond.lays "java/util/NoSuchElementException" "java/lang/Throwable" "depth" "I") ∈ lw_all := lw_g (lw_at lw_m5 21 rfl) rfl
theorem q1081 : (Jvm.Cond.superclass "java/util/NoSuchElementException" "java/lang/RuntimeException") ∈ lw_all := lw_g (lw_at lw_m5 22 rfl) rfl
theorem q1942 : (Jvm.Cond.castable "java/util/NoSuchElementException" "java/lang/Object") ∈ lw_tbl := lw_at lw_m8 163 rfl
theorem in_J16 : ∀ w ∈ wsJ160, w ∈ lw_all := lw_in wsJ160 [1071, 1072, 1073, 1074, 1075, 1080] (by decide +kernel) (by decide +kernel)
/-! java/lang/Object -/
set_option maxRecDepth 100000
def RJ17 : String := "java/lang/Object"
abbrev cJ17_init : ByteArray := object_method_1_code
def yJ17_init : MethodName := ⟨RJ17, "<init>", "()V"⟩
theorem dJ17_init_0 : decode cJ17_init 0 = .ok (.return_, 1) := by decide +kernel
theorem q142 : (Jvm.Cond.instanceMethod ({ cls := "java/lang/Object", name := "<init>", desc := "()V" } : Jvm.MethodName)) ∈ lw_all := lw_g (lw_at lw_m1 43 rfl) rfl
theorem q143 : (Jvm.Cond.code ({ cls := "java/lang/Object", name := "<init>", desc := "()V" } : Jvm.MethodName) object_method_1_code (1 : Nat) (Option.none : Option Jvm.ClassFile.FieldType)) ∈ lw_all := lw_g (lw_at lw_m1 44 rfl) rfl
theorem q584 : (Jvm.Cond.instanceMethod ({ cls := "java/lang/Object", name := "getClass", desc := "()Ljava/lang/Class;" } : Jvm.MethodName)) ∈ lw_all := lw_g (lw_at lw_m3 5 rfl) rfl
theorem q585 : (Jvm.Cond.sameMethod "java/lang/Object" "java/lang/Object" "getClass" "()Ljava/lang/Class;") ∈ lw_all := lw_g (lw_at lw_m3 6 rfl) rfl
theorem q605 : (Jvm.Cond.native ({ cls := "java/lang/Object", name := "getClass", desc := "()Ljava/lang/Class;" } : Jvm.MethodName)) ∈ lw_all := lw_g (lw_at lw_m3 26 rfl) rfl
theorem q619 : (Jvm.Cond.declares ({ cls := "java/lang/Object", name := "getClass", desc := "()Ljava/lang/Class;" } : Jvm.MethodName)) ∈ lw_tbl := lw_at lw_m3 40 rfl
theorem q621 : (Jvm.Cond.publicMethod ({ cls := "java/lang/Object", name := "getClass", desc := "()Ljava/lang/Class;" } : Jvm.MethodName)) ∈ lw_tbl := lw_at lw_m3 42 rfl
/-! java/util/ArrayList -/
set_option maxRecDepth 100000
def RJ2 : String := "java/util/ArrayList"
def TJ2 : u_T := fun k => match k with
  | 0 => ("java/util/AbstractList", "modCount", "I", false)
  | 1 => ("java/util/ArrayList", "elementData", "[Ljava/lang/Object;", false)
  | _ => ("java/util/ArrayList", "size", "I", false)
def tyJ2 : Nat → FieldType := fun k => match k with
  | 0 => .int
  | 1 => .array (.object "java/lang/Object")
  | _ => .int
abbrev wsJ20 : List Cond := u_ws RJ2 TJ2 3
theorem nmJ2 : ∀ a, a < 3 → ∀ b, b < 3 → a ≠ b → (TJ2 a).2.1 ≠ (TJ2 b).2.1 := by decide +kernel
theorem tyJ2_ok : ∀ k, k < 3 → parseFieldDescriptor (TJ2 k).2.2.1 = some (tyJ2 k) := by decide +kernel
abbrev cJ2_init : ByteArray := prog_39_method_2_code
def yJ2_init : MethodName := ⟨RJ2, "<init>", "()V"⟩
def dkwJ2_init_0 : List UInt8 := [42, 183, 0, 1, 42, 178, 0, 39, 181, 0, 9, 177]
abbrev dktJ2_init_0 : List UInt8 := dkwJ2_init_0 ++ []
theorem dksJ2_init_0 : cJ2_init.data.toList.drop 0 = dktJ2_init_0 := by decide +kernel
theorem dJ2_init_0 : decode cJ2_init 0 = .ok (.aload_n 0, 1) := dk_42 (dk_at dksJ2_init_0 0 rfl rfl)
theorem dJ2_init_1 : decode cJ2_init 1 = .ok (.invokespecial 1, 3) := dk_183 0 1 (dk_at dksJ2_init_0 1 rfl rfl)
theorem dJ2_init_4 : decode cJ2_init 4 = .ok (.aload_n 0, 1) := dk_42 (dk_at dksJ2_init_0 4 rfl rfl)
theorem dJ2_init_5 : decode cJ2_init 5 = .ok (.getstatic 39, 3) := dk_178 0 39 (dk_at dksJ2_init_0 5 rfl rfl)
theorem dJ2_init_8 : decode cJ2_init 8 = .ok (.putfield 9, 3) := dk_181 0 9 (dk_at dksJ2_init_0 8 rfl rfl)
theorem dJ2_init_11 : decode cJ2_init 11 = .ok (.return_, 1) := dk_177 (dk_at dksJ2_init_0 11 rfl rfl)
abbrev cJ2_isEmpty : ByteArray := prog_39_method_9_code
def yJ2_isEmpty : MethodName := ⟨RJ2, "isEmpty", "()Z"⟩
def dkwJ2_isEmpty_0 : List UInt8 := [42, 180, 0, 48, 154, 0, 7, 4, 167, 0, 4, 3, 172]
abbrev dktJ2_isEmpty_0 : List UInt8 := dkwJ2_isEmpty_0 ++ []
theorem dksJ2_isEmpty_0 : cJ2_isEmpty.data.toList.drop 0 = dktJ2_isEmpty_0 := by decide +kernel
theorem dJ2_isEmpty_0 : decode cJ2_isEmpty 0 = .ok (.aload_n 0, 1) := dk_42 (dk_at dksJ2_isEmpty_0 0 rfl rfl)
theorem dJ2_isEmpty_1 : decode cJ2_isEmpty 1 = .ok (.getfield 48, 3) := dk_180 0 48 (dk_at dksJ2_isEmpty_0 1 rfl rfl)
theorem dJ2_isEmpty_4 : decode cJ2_isEmpty 4 = .ok (.ifCond .ne 7, 3) := dk_154 0 7 (dk_at dksJ2_isEmpty_0 4 rfl rfl)
theorem dJ2_isEmpty_7 : decode cJ2_isEmpty 7 = .ok (.iconst 1, 1) := dk_4 (dk_at dksJ2_isEmpty_0 7 rfl rfl)
theorem dJ2_isEmpty_8 : decode cJ2_isEmpty 8 = .ok (.goto 4, 3) := dk_167 0 4 (dk_at dksJ2_isEmpty_0 8 rfl rfl)
theorem dJ2_isEmpty_11 : decode cJ2_isEmpty 11 = .ok (.iconst 0, 1) := dk_3 (dk_at dksJ2_isEmpty_0 11 rfl rfl)
theorem dJ2_isEmpty_12 : decode cJ2_isEmpty 12 = .ok (.ireturn, 1) := dk_172 (dk_at dksJ2_isEmpty_0 12 rfl rfl)
abbrev cJ2_size : ByteArray := prog_39_method_8_code
def yJ2_size : MethodName := ⟨RJ2, "size", "()I"⟩
theorem dJ2_size_0 : decode cJ2_size 0 = .ok (.aload_n 0, 1) := by decide +kernel
theorem dJ2_size_1 : decode cJ2_size 1 = .ok (.getfield 48, 3) := by decide +kernel
theorem dJ2_size_4 : decode cJ2_size 4 = .ok (.ireturn, 1) := by decide +kernel
abbrev cJ2_remove : ByteArray := prog_39_method_29_code
def yJ2_remove : MethodName := ⟨RJ2, "remove", "(I)Ljava/lang/Object;"⟩
def dkwJ2_remove_1 : List UInt8 := [45, 176]
abbrev dktJ2_remove_1 : List UInt8 := dkwJ2_remove_1 ++ []
def dkwJ2_remove_0 : List UInt8 := [27, 42, 180, 0, 48, 184, 0, 118, 87, 42, 180, 0, 9, 77, 44, 27, 50, 78, 42, 44, 27, 182, 0, 144]
abbrev dktJ2_remove_0 : List UInt8 := dkwJ2_remove_0 ++ dktJ2_remove_1
theorem dksJ2_remove_0 : cJ2_remove.data.toList.drop 0 = dktJ2_remove_0 := by decide +kernel
theorem dksJ2_remove_1 : cJ2_remove.data.toList.drop 24 = dktJ2_remove_1 := dk_seg dksJ2_remove_0 24 rfl rfl
theorem dJ2_remove_0 : decode cJ2_remove 0 = .ok (.iload_n 1, 1) := dk_27 (dk_at dksJ2_remove_0 0 rfl rfl)
theorem dJ2_remove_1 : decode cJ2_remove 1 = .ok (.aload_n 0, 1) := dk_42 (dk_at dksJ2_remove_0 1 rfl rfl)
theorem dJ2_remove_2 : decode cJ2_remove 2 = .ok (.getfield 48, 3) := dk_180 0 48 (dk_at dksJ2_remove_0 2 rfl rfl)
theorem dJ2_remove_5 : decode cJ2_remove 5 = .ok (.invokestatic 118, 3) := dk_184 0 118 (dk_at dksJ2_remove_0 5 rfl rfl)
theorem dJ2_remove_8 : decode cJ2_remove 8 = .ok (.pop, 1) := dk_87 (dk_at dksJ2_remove_0 8 rfl rfl)
theorem dJ2_remove_9 : decode cJ2_remove 9 = .ok (.aload_n 0, 1) := dk_42 (dk_at dksJ2_remove_0 9 rfl rfl)
theorem dJ2_remove_10 : decode cJ2_remove 10 = .ok (.getfield 9, 3) := dk_180 0 9 (dk_at dksJ2_remove_0 10 rfl rfl)
theorem dJ2_remove_13 : decode cJ2_remove 13 = .ok (.astore_n 2, 1) := dk_77 (dk_at dksJ2_remove_0 13 rfl rfl)
theorem dJ2_remove_14 : decode cJ2_remove 14 = .ok (.aload_n 2, 1) := dk_44 (dk_at dksJ2_remove_0 14 rfl rfl)
theorem dJ2_remove_15 : decode cJ2_remove 15 = .ok (.iload_n 1, 1) := dk_27 (dk_at dksJ2_remove_0 15 rfl rfl)
theorem dJ2_remove_16 : decode cJ2_remove 16 = .ok (.aaload, 1) := dk_50 (dk_at dksJ2_remove_0 16 rfl rfl)
theorem dJ2_remove_17 : decode cJ2_remove 17 = .ok (.astore_n 3, 1) := dk_78 (dk_at dksJ2_remove_0 17 rfl rfl)
theorem dJ2_remove_18 : decode cJ2_remove 18 = .ok (.aload_n 0, 1) := dk_42 (dk_at dksJ2_remove_0 18 rfl rfl)
theorem dJ2_remove_19 : decode cJ2_remove 19 = .ok (.aload_n 2, 1) := dk_44 (dk_at dksJ2_remove_0 19 rfl rfl)
theorem dJ2_remove_20 : decode cJ2_remove 20 = .ok (.iload_n 1, 1) := dk_27 (dk_at dksJ2_remove_0 20 rfl rfl)
theorem dJ2_remove_21 : decode cJ2_remove 21 = .ok (.invokevirtual 144, 3) := dk_182 0 144 (dk_at dksJ2_remove_0 21 rfl rfl)
theorem dJ2_remove_24 : decode cJ2_remove 24 = .ok (.aload_n 3, 1) := dk_45 (dk_at dksJ2_remove_1 0 rfl rfl)
theorem dJ2_remove_25 : decode cJ2_remove 25 = .ok (.areturn, 1) := dk_176 (dk_at dksJ2_remove_1 1 rfl rfl)
abbrev cJ2_fastRemove : ByteArray := prog_39_method_39_code
def yJ2_fastRemove : MethodName := ⟨RJ2, "fastRemove", "([Ljava/lang/Object;I)V"⟩
def dkwJ2_fastRemove_1 : List UInt8 := [4, 96, 43, 28, 29, 28, 100, 184, 0, 112, 43, 42, 29, 90, 181, 0, 48, 1, 83, 177]
abbrev dktJ2_fastRemove_1 : List UInt8 := dkwJ2_fastRemove_1 ++ []
def dkwJ2_fastRemove_0 : List UInt8 := [42, 89, 180, 0, 63, 4, 96, 181, 0, 63, 42, 180, 0, 48, 4, 100, 89, 62, 28, 164, 0, 15, 43, 28]
abbrev dktJ2_fastRemove_0 : List UInt8 := dkwJ2_fastRemove_0 ++ dktJ2_fastRemove_1
theorem dksJ2_fastRemove_0 : cJ2_fastRemove.data.toList.drop 0 = dktJ2_fastRemove_0 := by decide +kernel
theorem dksJ2_fastRemove_1 : cJ2_fastRemove.data.toList.drop 24 = dktJ2_fastRemove_1 := dk_seg dksJ2_fastRemove_0 24 rfl rfl
theorem dJ2_fastRemove_0 : decode cJ2_fastRemove 0 = .ok (.aload_n 0, 1) := dk_42 (dk_at dksJ2_fastRemove_0 0 rfl rfl)
theorem dJ2_fastRemove_1 : decode cJ2_fastRemove 1 = .ok (.dup, 1) := dk_89 (dk_at dksJ2_fastRemove_0 1 rfl rfl)
theorem dJ2_fastRemove_2 : decode cJ2_fastRemove 2 = .ok (.getfield 63, 3) := dk_180 0 63 (dk_at dksJ2_fastRemove_0 2 rfl rfl)
theorem dJ2_fastRemove_5 : decode cJ2_fastRemove 5 = .ok (.iconst 1, 1) := dk_4 (dk_at dksJ2_fastRemove_0 5 rfl rfl)
theorem dJ2_fastRemove_6 : decode cJ2_fastRemove 6 = .ok (.iadd, 1) := dk_96 (dk_at dksJ2_fastRemove_0 6 rfl rfl)
theorem dJ2_fastRemove_7 : decode cJ2_fastRemove 7 = .ok (.putfield 63, 3) := dk_181 0 63 (dk_at dksJ2_fastRemove_0 7 rfl rfl)
theorem dJ2_fastRemove_10 : decode cJ2_fastRemove 10 = .ok (.aload_n 0, 1) := dk_42 (dk_at dksJ2_fastRemove_0 10 rfl rfl)
theorem dJ2_fastRemove_11 : decode cJ2_fastRemove 11 = .ok (.getfield 48, 3) := dk_180 0 48 (dk_at dksJ2_fastRemove_0 11 rfl rfl)
theorem dJ2_fastRemove_14 : decode cJ2_fastRemove 14 = .ok (.iconst 1, 1) := dk_4 (dk_at dksJ2_fastRemove_0 14 rfl rfl)
theorem dJ2_fastRemove_15 : decode cJ2_fastRemove 15 = .ok (.isub, 1) := dk_100 (dk_at dksJ2_fastRemove_0 15 rfl rfl)
theorem dJ2_fastRemove_16 : decode cJ2_fastRemove 16 = .ok (.dup, 1) := dk_89 (dk_at dksJ2_fastRemove_0 16 rfl rfl)
theorem dJ2_fastRemove_17 : decode cJ2_fastRemove 17 = .ok (.istore_n 3, 1) := dk_62 (dk_at dksJ2_fastRemove_0 17 rfl rfl)
theorem dJ2_fastRemove_18 : decode cJ2_fastRemove 18 = .ok (.iload_n 2, 1) := dk_28 (dk_at dksJ2_fastRemove_0 18 rfl rfl)
theorem dJ2_fastRemove_19 : decode cJ2_fastRemove 19 = .ok (.if_icmp .le 15, 3) := dk_164 0 15 (dk_at dksJ2_fastRemove_0 19 rfl rfl)
theorem dJ2_fastRemove_22 : decode cJ2_fastRemove 22 = .ok (.aload_n 1, 1) := dk_43 (dk_at dksJ2_fastRemove_0 22 rfl rfl)
theorem dJ2_fastRemove_23 : decode cJ2_fastRemove 23 = .ok (.iload_n 2, 1) := dk_28 (dk_at dksJ2_fastRemove_0 23 rfl rfl)
theorem dJ2_fastRemove_24 : decode cJ2_fastRemove 24 = .ok (.iconst 1, 1) := dk_4 (dk_at dksJ2_fastRemove_1 0 rfl rfl)
theorem dJ2_fastRemove_25 : decode cJ2_fastRemove 25 = .ok (.iadd, 1) := dk_96 (dk_at dksJ2_fastRemove_1 1 rfl rfl)
theorem dJ2_fastRemove_26 : decode cJ2_fastRemove 26 = .ok (.aload_n 1, 1) := dk_43 (dk_at dksJ2_fastRemove_1 2 rfl rfl)
theorem dJ2_fastRemove_27 : decode cJ2_fastRemove 27 = .ok (.iload_n 2, 1) := dk_28 (dk_at dksJ2_fastRemove_1 3 rfl rfl)
theorem dJ2_fastRemove_28 : decode cJ2_fastRemove 28 = .ok (.iload_n 3, 1) := dk_29 (dk_at dksJ2_fastRemove_1 4 rfl rfl)
theorem dJ2_fastRemove_29 : decode cJ2_fastRemove 29 = .ok (.iload_n 2, 1) := dk_28 (dk_at dksJ2_fastRemove_1 5 rfl rfl)
theorem dJ2_fastRemove_30 : decode cJ2_fastRemove 30 = .ok (.isub, 1) := dk_100 (dk_at dksJ2_fastRemove_1 6 rfl rfl)
theorem dJ2_fastRemove_31 : decode cJ2_fastRemove 31 = .ok (.invokestatic 112, 3) := dk_184 0 112 (dk_at dksJ2_fastRemove_1 7 rfl rfl)
theorem dJ2_fastRemove_34 : decode cJ2_fastRemove 34 = .ok (.aload_n 1, 1) := dk_43 (dk_at dksJ2_fastRemove_1 10 rfl rfl)
theorem dJ2_fastRemove_35 : decode cJ2_fastRemove 35 = .ok (.aload_n 0, 1) := dk_42 (dk_at dksJ2_fastRemove_1 11 rfl rfl)
theorem dJ2_fastRemove_36 : decode cJ2_fastRemove 36 = .ok (.iload_n 3, 1) := dk_29 (dk_at dksJ2_fastRemove_1 12 rfl rfl)
theorem dJ2_fastRemove_37 : decode cJ2_fastRemove 37 = .ok (.dup_x1, 1) := dk_90 (dk_at dksJ2_fastRemove_1 13 rfl rfl)
theorem dJ2_fastRemove_38 : decode cJ2_fastRemove 38 = .ok (.putfield 48, 3) := dk_181 0 48 (dk_at dksJ2_fastRemove_1 14 rfl rfl)
theorem dJ2_fastRemove_41 : decode cJ2_fastRemove 41 = .ok (.aconst_null, 1) := dk_1 (dk_at dksJ2_fastRemove_1 17 rfl rfl)
theorem dJ2_fastRemove_42 : decode cJ2_fastRemove 42 = .ok (.aastore, 1) := dk_83 (dk_at dksJ2_fastRemove_1 18 rfl rfl)
theorem dJ2_fastRemove_43 : decode cJ2_fastRemove 43 = .ok (.return_, 1) := dk_177 (dk_at dksJ2_fastRemove_1 19 rfl rfl)
abbrev cJ2_get : ByteArray := prog_39_method_20_code
def yJ2_get : MethodName := ⟨RJ2, "get", "(I)Ljava/lang/Object;"⟩
def dkwJ2_get_0 : List UInt8 := [27, 42, 180, 0, 48, 184, 0, 118, 87, 42, 27, 182, 0, 123, 176]
abbrev dktJ2_get_0 : List UInt8 := dkwJ2_get_0 ++ []
theorem dksJ2_get_0 : cJ2_get.data.toList.drop 0 = dktJ2_get_0 := by decide +kernel
theorem dJ2_get_0 : decode cJ2_get 0 = .ok (.iload_n 1, 1) := dk_27 (dk_at dksJ2_get_0 0 rfl rfl)
theorem dJ2_get_1 : decode cJ2_get 1 = .ok (.aload_n 0, 1) := dk_42 (dk_at dksJ2_get_0 1 rfl rfl)
theorem dJ2_get_2 : decode cJ2_get 2 = .ok (.getfield 48, 3) := dk_180 0 48 (dk_at dksJ2_get_0 2 rfl rfl)
theorem dJ2_get_5 : decode cJ2_get 5 = .ok (.invokestatic 118, 3) := dk_184 0 118 (dk_at dksJ2_get_0 5 rfl rfl)
theorem dJ2_get_8 : decode cJ2_get 8 = .ok (.pop, 1) := dk_87 (dk_at dksJ2_get_0 8 rfl rfl)
theorem dJ2_get_9 : decode cJ2_get 9 = .ok (.aload_n 0, 1) := dk_42 (dk_at dksJ2_get_0 9 rfl rfl)
theorem dJ2_get_10 : decode cJ2_get 10 = .ok (.iload_n 1, 1) := dk_27 (dk_at dksJ2_get_0 10 rfl rfl)
theorem dJ2_get_11 : decode cJ2_get 11 = .ok (.invokevirtual 123, 3) := dk_182 0 123 (dk_at dksJ2_get_0 11 rfl rfl)
theorem dJ2_get_14 : decode cJ2_get 14 = .ok (.areturn, 1) := dk_176 (dk_at dksJ2_get_0 14 rfl rfl)
abbrev cJ2_elementData : ByteArray := prog_39_method_18_code
def yJ2_elementData : MethodName := ⟨RJ2, "elementData", "(I)Ljava/lang/Object;"⟩
def dkwJ2_elementData_0 : List UInt8 := [42, 180, 0, 9, 27, 50, 176]
abbrev dktJ2_elementData_0 : List UInt8 := dkwJ2_elementData_0 ++ []
theorem dksJ2_elementData_0 : cJ2_elementData.data.toList.drop 0 = dktJ2_elementData_0 := by decide +kernel
theorem dJ2_elementData_0 : decode cJ2_elementData 0 = .ok (.aload_n 0, 1) := dk_42 (dk_at dksJ2_elementData_0 0 rfl rfl)
theorem dJ2_elementData_1 : decode cJ2_elementData 1 = .ok (.getfield 9, 3) := dk_180 0 9 (dk_at dksJ2_elementData_0 1 rfl rfl)
theorem dJ2_elementData_4 : decode cJ2_elementData 4 = .ok (.iload_n 1, 1) := dk_27 (dk_at dksJ2_elementData_0 4 rfl rfl)
theorem dJ2_elementData_5 : decode cJ2_elementData 5 = .ok (.aaload, 1) := dk_50 (dk_at dksJ2_elementData_0 5 rfl rfl)
theorem dJ2_elementData_6 : decode cJ2_elementData 6 = .ok (.areturn, 1) := dk_176 (dk_at dksJ2_elementData_0 6 rfl rfl)
abbrev cJ2_init_2 : ByteArray := prog_39_method_3_code
def yJ2_init_2 : MethodName := ⟨RJ2, "<init>", "(Ljava/util/Collection;)V"⟩
def dkwJ2_init_2_2 : List UInt8 := [18, 56, 184, 0, 57, 181, 0, 9, 167, 0, 10, 42, 178, 0, 15, 181, 0, 9, 177]
abbrev dktJ2_init_2_2 : List UInt8 := dkwJ2_init_2_2 ++ []
def dkwJ2_init_2_1 : List UInt8 := [185, 0, 52, 1, 0, 18, 10, 166, 0, 11, 42, 44, 181, 0, 9, 167, 0, 27, 42, 44, 42, 180, 0, 48]
abbrev dktJ2_init_2_1 : List UInt8 := dkwJ2_init_2_1 ++ dktJ2_init_2_2
def dkwJ2_init_2_0 : List UInt8 := [42, 183, 0, 1, 43, 185, 0, 42, 1, 0, 77, 42, 44, 190, 90, 181, 0, 48, 153, 0, 39, 43]
abbrev dktJ2_init_2_0 : List UInt8 := dkwJ2_init_2_0 ++ dktJ2_init_2_1
theorem dksJ2_init_2_0 : cJ2_init_2.data.toList.drop 0 = dktJ2_init_2_0 := by decide +kernel
theorem dksJ2_init_2_1 : cJ2_init_2.data.toList.drop 22 = dktJ2_init_2_1 := dk_seg dksJ2_init_2_0 22 rfl rfl
theorem dksJ2_init_2_2 : cJ2_init_2.data.toList.drop 46 = dktJ2_init_2_2 := dk_seg dksJ2_init_2_1 24 rfl rfl
theorem dJ2_init_2_0 : decode cJ2_init_2 0 = .ok (.aload_n 0, 1) := dk_42 (dk_at dksJ2_init_2_0 0 rfl rfl)
theorem dJ2_init_2_1 : decode cJ2_init_2 1 = .ok (.invokespecial 1, 3) := dk_183 0 1 (dk_at dksJ2_init_2_0 1 rfl rfl)
theorem dJ2_init_2_4 : decode cJ2_init_2 4 = .ok (.aload_n 1, 1) := dk_43 (dk_at dksJ2_init_2_0 4 rfl rfl)
theorem dJ2_init_2_5 : decode cJ2_init_2 5 = .ok (.invokeinterface 42 1, 5) := by decide +kernel
theorem dJ2_init_2_10 : decode cJ2_init_2 10 = .ok (.astore_n 2, 1) := dk_77 (dk_at dksJ2_init_2_0 10 rfl rfl)
theorem dJ2_init_2_11 : decode cJ2_init_2 11 = .ok (.aload_n 0, 1) := dk_42 (dk_at dksJ2_init_2_0 11 rfl rfl)
theorem dJ2_init_2_12 : decode cJ2_init_2 12 = .ok (.aload_n 2, 1) := dk_44 (dk_at dksJ2_init_2_0 12 rfl rfl)
theorem dJ2_init_2_13 : decode cJ2_init_2 13 = .ok (.arraylength, 1) := dk_190 (dk_at dksJ2_init_2_0 13 rfl rfl)
theorem dJ2_init_2_14 : decode cJ2_init_2 14 = .ok (.dup_x1, 1) := dk_90 (dk_at dksJ2_init_2_0 14 rfl rfl)
theorem dJ2_init_2_15 : decode cJ2_init_2 15 = .ok (.putfield 48, 3) := dk_181 0 48 (dk_at dksJ2_init_2_0 15 rfl rfl)
theorem dJ2_init_2_18 : decode cJ2_init_2 18 = .ok (.ifCond .eq 39, 3) := dk_153 0 39 (dk_at dksJ2_init_2_0 18 rfl rfl)
theorem dJ2_init_2_21 : decode cJ2_init_2 21 = .ok (.aload_n 1, 1) := dk_43 (dk_at dksJ2_init_2_0 21 rfl rfl)
theorem dJ2_init_2_22 : decode cJ2_init_2 22 = .ok (.invokeinterface 52 1, 5) := by decide +kernel
theorem dJ2_init_2_27 : decode cJ2_init_2 27 = .ok (.ldc 10, 2) := dk_18 10 (dk_at dksJ2_init_2_1 5 rfl rfl)
theorem dJ2_init_2_29 : decode cJ2_init_2 29 = .ok (.if_acmp .ne 11, 3) := dk_166 0 11 (dk_at dksJ2_init_2_1 7 rfl rfl)
theorem dJ2_init_2_32 : decode cJ2_init_2 32 = .ok (.aload_n 0, 1) := dk_42 (dk_at dksJ2_init_2_1 10 rfl rfl)
theorem dJ2_init_2_33 : decode cJ2_init_2 33 = .ok (.aload_n 2, 1) := dk_44 (dk_at dksJ2_init_2_1 11 rfl rfl)
theorem dJ2_init_2_34 : decode cJ2_init_2 34 = .ok (.putfield 9, 3) := dk_181 0 9 (dk_at dksJ2_init_2_1 12 rfl rfl)
theorem dJ2_init_2_37 : decode cJ2_init_2 37 = .ok (.goto 27, 3) := dk_167 0 27 (dk_at dksJ2_init_2_1 15 rfl rfl)
theorem dJ2_init_2_40 : decode cJ2_init_2 40 = .ok (.aload_n 0, 1) := dk_42 (dk_at dksJ2_init_2_1 18 rfl rfl)
theorem dJ2_init_2_41 : decode cJ2_init_2 41 = .ok (.aload_n 2, 1) := dk_44 (dk_at dksJ2_init_2_1 19 rfl rfl)
theorem dJ2_init_2_42 : decode cJ2_init_2 42 = .ok (.aload_n 0, 1) := dk_42 (dk_at dksJ2_init_2_1 20 rfl rfl)
theorem dJ2_init_2_43 : decode cJ2_init_2 43 = .ok (.getfield 48, 3) := dk_180 0 48 (dk_at dksJ2_init_2_1 21 rfl rfl)
theorem dJ2_init_2_46 : decode cJ2_init_2 46 = .ok (.ldc 56, 2) := dk_18 56 (dk_at dksJ2_init_2_2 0 rfl rfl)
theorem dJ2_init_2_48 : decode cJ2_init_2 48 = .ok (.invokestatic 57, 3) := dk_184 0 57 (dk_at dksJ2_init_2_2 2 rfl rfl)
theorem dJ2_init_2_51 : decode cJ2_init_2 51 = .ok (.putfield 9, 3) := dk_181 0 9 (dk_at dksJ2_init_2_2 5 rfl rfl)
theorem dJ2_init_2_54 : decode cJ2_init_2 54 = .ok (.goto 10, 3) := dk_167 0 10 (dk_at dksJ2_init_2_2 8 rfl rfl)
theorem dJ2_init_2_57 : decode cJ2_init_2 57 = .ok (.aload_n 0, 1) := dk_42 (dk_at dksJ2_init_2_2 11 rfl rfl)
theorem dJ2_init_2_58 : decode cJ2_init_2 58 = .ok (.getstatic 15, 3) := dk_178 0 15 (dk_at dksJ2_init_2_2 12 rfl rfl)
theorem dJ2_init_2_61 : decode cJ2_init_2 61 = .ok (.putfield 9, 3) := dk_181 0 9 (dk_at dksJ2_init_2_2 15 rfl rfl)
theorem dJ2_init_2_64 : decode cJ2_init_2 64 = .ok (.return_, 1) := dk_177 (dk_at dksJ2_init_2_2 18 rfl rfl)
abbrev cJ2_toArray : ByteArray := prog_39_method_16_code
def yJ2_toArray : MethodName := ⟨RJ2, "toArray", "()[Ljava/lang/Object;"⟩
def dkwJ2_toArray_0 : List UInt8 := [42, 180, 0, 9, 42, 180, 0, 48, 184, 0, 66, 176]
abbrev dktJ2_toArray_0 : List UInt8 := dkwJ2_toArray_0 ++ []
theorem dksJ2_toArray_0 : cJ2_toArray.data.toList.drop 0 = dktJ2_toArray_0 := by decide +kernel
theorem dJ2_toArray_0 : decode cJ2_toArray 0 = .ok (.aload_n 0, 1) := dk_42 (dk_at dksJ2_toArray_0 0 rfl rfl)
theorem dJ2_toArray_1 : decode cJ2_toArray 1 = .ok (.getfield 9, 3) := dk_180 0 9 (dk_at dksJ2_toArray_0 1 rfl rfl)
theorem dJ2_toArray_4 : decode cJ2_toArray 4 = .ok (.aload_n 0, 1) := dk_42 (dk_at dksJ2_toArray_0 4 rfl rfl)
theorem dJ2_toArray_5 : decode cJ2_toArray 5 = .ok (.getfield 48, 3) := dk_180 0 48 (dk_at dksJ2_toArray_0 5 rfl rfl)
theorem dJ2_toArray_8 : decode cJ2_toArray 8 = .ok (.invokestatic 66, 3) := dk_184 0 66 (dk_at dksJ2_toArray_0 8 rfl rfl)
theorem dJ2_toArray_11 : decode cJ2_toArray 11 = .ok (.areturn, 1) := dk_176 (dk_at dksJ2_toArray_0 11 rfl rfl)
abbrev cJ2_add : ByteArray := prog_39_method_25_code
def yJ2_add : MethodName := ⟨RJ2, "add", "(Ljava/lang/Object;)Z"⟩
def dkwJ2_add_1 : List UInt8 := [172]
abbrev dktJ2_add_1 : List UInt8 := dkwJ2_add_1 ++ []
def dkwJ2_add_0 : List UInt8 := [42, 89, 180, 0, 63, 4, 96, 181, 0, 63, 42, 43, 42, 180, 0, 9, 42, 180, 0, 48, 182, 0, 131, 4]
abbrev dktJ2_add_0 : List UInt8 := dkwJ2_add_0 ++ dktJ2_add_1
theorem dksJ2_add_0 : cJ2_add.data.toList.drop 0 = dktJ2_add_0 := by decide +kernel
theorem dksJ2_add_1 : cJ2_add.data.toList.drop 24 = dktJ2_add_1 := dk_seg dksJ2_add_0 24 rfl rfl
theorem dJ2_add_0 : decode cJ2_add 0 = .ok (.aload_n 0, 1) := dk_42 (dk_at dksJ2_add_0 0 rfl rfl)
theorem dJ2_add_1 : decode cJ2_add 1 = .ok (.dup, 1) := dk_89 (dk_at dksJ2_add_0 1 rfl rfl)
theorem dJ2_add_2 : decode cJ2_add 2 = .ok (.getfield 63, 3) := dk_180 0 63 (dk_at dksJ2_add_0 2 rfl rfl)
theorem dJ2_add_5 : decode cJ2_add 5 = .ok (.iconst 1, 1) := dk_4 (dk_at dksJ2_add_0 5 rfl rfl)
theorem dJ2_add_6 : decode cJ2_add 6 = .ok (.iadd, 1) := dk_96 (dk_at dksJ2_add_0 6 rfl rfl)
theorem dJ2_add_7 : decode cJ2_add 7 = .ok (.putfield 63, 3) := dk_181 0 63 (dk_at dksJ2_add_0 7 rfl rfl)
theorem dJ2_add_10 : decode cJ2_add 10 = .ok (.aload_n 0, 1) := dk_42 (dk_at dksJ2_add_0 10 rfl rfl)
theorem dJ2_add_11 : decode cJ2_add 11 = .ok (.aload_n 1, 1) := dk_43 (dk_at dksJ2_add_0 11 rfl rfl)
theorem dJ2_add_12 : decode cJ2_add 12 = .ok (.aload_n 0, 1) := dk_42 (dk_at dksJ2_add_0 12 rfl rfl)
theorem dJ2_add_13 : decode cJ2_add 13 = .ok (.getfield 9, 3) := dk_180 0 9 (dk_at dksJ2_add_0 13 rfl rfl)
theorem dJ2_add_16 : decode cJ2_add 16 = .ok (.aload_n 0, 1) := dk_42 (dk_at dksJ2_add_0 16 rfl rfl)
theorem dJ2_add_17 : decode cJ2_add 17 = .ok (.getfield 48, 3) := dk_180 0 48 (dk_at dksJ2_add_0 17 rfl rfl)
theorem dJ2_add_20 : decode cJ2_add 20 = .ok (.invokevirtual 131, 3) := dk_182 0 131 (dk_at dksJ2_add_0 20 rfl rfl)
theorem dJ2_add_23 : decode cJ2_add 23 = .ok (.iconst 1, 1) := dk_4 (dk_at dksJ2_add_0 23 rfl rfl)
theorem dJ2_add_24 : decode cJ2_add 24 = .ok (.ireturn, 1) := dk_172 (dk_at dksJ2_add_1 0 rfl rfl)
abbrev cJ2_add_2 : ByteArray := prog_39_method_24_code
def yJ2_add_2 : MethodName := ⟨RJ2, "add", "(Ljava/lang/Object;[Ljava/lang/Object;I)V"⟩
def dkwJ2_add_2_0 : List UInt8 := [29, 44, 190, 160, 0, 8, 42, 182, 0, 129, 77, 44, 29, 43, 83, 42, 29, 4, 96, 181, 0, 48, 177]
abbrev dktJ2_add_2_0 : List UInt8 := dkwJ2_add_2_0 ++ []
theorem dksJ2_add_2_0 : cJ2_add_2.data.toList.drop 0 = dktJ2_add_2_0 := by decide +kernel
theorem dJ2_add_2_0 : decode cJ2_add_2 0 = .ok (.iload_n 3, 1) := dk_29 (dk_at dksJ2_add_2_0 0 rfl rfl)
theorem dJ2_add_2_1 : decode cJ2_add_2 1 = .ok (.aload_n 2, 1) := dk_44 (dk_at dksJ2_add_2_0 1 rfl rfl)
theorem dJ2_add_2_2 : decode cJ2_add_2 2 = .ok (.arraylength, 1) := dk_190 (dk_at dksJ2_add_2_0 2 rfl rfl)
theorem dJ2_add_2_3 : decode cJ2_add_2 3 = .ok (.if_icmp .ne 8, 3) := dk_160 0 8 (dk_at dksJ2_add_2_0 3 rfl rfl)
theorem dJ2_add_2_6 : decode cJ2_add_2 6 = .ok (.aload_n 0, 1) := dk_42 (dk_at dksJ2_add_2_0 6 rfl rfl)
theorem dJ2_add_2_7 : decode cJ2_add_2 7 = .ok (.invokevirtual 129, 3) := dk_182 0 129 (dk_at dksJ2_add_2_0 7 rfl rfl)
theorem dJ2_add_2_10 : decode cJ2_add_2 10 = .ok (.astore_n 2, 1) := dk_77 (dk_at dksJ2_add_2_0 10 rfl rfl)
theorem dJ2_add_2_11 : decode cJ2_add_2 11 = .ok (.aload_n 2, 1) := dk_44 (dk_at dksJ2_add_2_0 11 rfl rfl)
theorem dJ2_add_2_12 : decode cJ2_add_2 12 = .ok (.iload_n 3, 1) := dk_29 (dk_at dksJ2_add_2_0 12 rfl rfl)
theorem dJ2_add_2_13 : decode cJ2_add_2 13 = .ok (.aload_n 1, 1) := dk_43 (dk_at dksJ2_add_2_0 13 rfl rfl)
theorem dJ2_add_2_14 : decode cJ2_add_2 14 = .ok (.aastore, 1) := dk_83 (dk_at dksJ2_add_2_0 14 rfl rfl)
theorem dJ2_add_2_15 : decode cJ2_add_2 15 = .ok (.aload_n 0, 1) := dk_42 (dk_at dksJ2_add_2_0 15 rfl rfl)
theorem dJ2_add_2_16 : decode cJ2_add_2 16 = .ok (.iload_n 3, 1) := dk_29 (dk_at dksJ2_add_2_0 16 rfl rfl)
theorem dJ2_add_2_17 : decode cJ2_add_2 17 = .ok (.iconst 1, 1) := dk_4 (dk_at dksJ2_add_2_0 17 rfl rfl)
theorem dJ2_add_2_18 : decode cJ2_add_2 18 = .ok (.iadd, 1) := dk_96 (dk_at dksJ2_add_2_0 18 rfl rfl)
theorem dJ2_add_2_19 : decode cJ2_add_2 19 = .ok (.putfield 48, 3) := dk_181 0 48 (dk_at dksJ2_add_2_0 19 rfl rfl)
theorem dJ2_add_2_22 : decode cJ2_add_2 22 = .ok (.return_, 1) := dk_177 (dk_at dksJ2_add_2_0 22 rfl rfl)
abbrev cJ2_grow : ByteArray := prog_39_method_7_code
def yJ2_grow : MethodName := ⟨RJ2, "grow", "()[Ljava/lang/Object;"⟩
def dkwJ2_grow_0 : List UInt8 := [42, 42, 180, 0, 48, 4, 96, 182, 0, 69, 176]
abbrev dktJ2_grow_0 : List UInt8 := dkwJ2_grow_0 ++ []
theorem dksJ2_grow_0 : cJ2_grow.data.toList.drop 0 = dktJ2_grow_0 := by decide +kernel
theorem dJ2_grow_0 : decode cJ2_grow 0 = .ok (.aload_n 0, 1) := dk_42 (dk_at dksJ2_grow_0 0 rfl rfl)
theorem dJ2_grow_1 : decode cJ2_grow 1 = .ok (.aload_n 0, 1) := dk_42 (dk_at dksJ2_grow_0 1 rfl rfl)
theorem dJ2_grow_2 : decode cJ2_grow 2 = .ok (.getfield 48, 3) := dk_180 0 48 (dk_at dksJ2_grow_0 2 rfl rfl)
theorem dJ2_grow_5 : decode cJ2_grow 5 = .ok (.iconst 1, 1) := dk_4 (dk_at dksJ2_grow_0 5 rfl rfl)
theorem dJ2_grow_6 : decode cJ2_grow 6 = .ok (.iadd, 1) := dk_96 (dk_at dksJ2_grow_0 6 rfl rfl)
theorem dJ2_grow_7 : decode cJ2_grow 7 = .ok (.invokevirtual 69, 3) := dk_182 0 69 (dk_at dksJ2_grow_0 7 rfl rfl)
theorem dJ2_grow_10 : decode cJ2_grow 10 = .ok (.areturn, 1) := dk_176 (dk_at dksJ2_grow_0 10 rfl rfl)
abbrev cJ2_grow_2 : ByteArray := prog_39_method_6_code
def yJ2_grow_2 : MethodName := ⟨RJ2, "grow", "(I)[Ljava/lang/Object;"⟩
def dkwJ2_grow_2_2 : List UInt8 := [27, 184, 0, 79, 189, 0, 7, 90, 181, 0, 9, 176]
abbrev dktJ2_grow_2_2 : List UInt8 := dkwJ2_grow_2_2 ++ []
def dkwJ2_grow_2_1 : List UInt8 := [28, 4, 122, 184, 0, 73, 62, 42, 42, 180, 0, 9, 29, 184, 0, 66, 90, 181, 0, 9, 176, 42, 16, 10]
abbrev dktJ2_grow_2_1 : List UInt8 := dkwJ2_grow_2_1 ++ dktJ2_grow_2_2
def dkwJ2_grow_2_0 : List UInt8 := [42, 180, 0, 9, 190, 61, 28, 157, 0, 13, 42, 180, 0, 9, 178, 0, 39, 165, 0, 28, 28, 27, 28, 100]
abbrev dktJ2_grow_2_0 : List UInt8 := dkwJ2_grow_2_0 ++ dktJ2_grow_2_1
theorem dksJ2_grow_2_0 : cJ2_grow_2.data.toList.drop 0 = dktJ2_grow_2_0 := by decide +kernel
theorem dksJ2_grow_2_1 : cJ2_grow_2.data.toList.drop 24 = dktJ2_grow_2_1 := dk_seg dksJ2_grow_2_0 24 rfl rfl
theorem dksJ2_grow_2_2 : cJ2_grow_2.data.toList.drop 48 = dktJ2_grow_2_2 := dk_seg dksJ2_grow_2_1 24 rfl rfl
theorem dJ2_grow_2_0 : decode cJ2_grow_2 0 = .ok (.aload_n 0, 1) := dk_42 (dk_at dksJ2_grow_2_0 0 rfl rfl)
theorem dJ2_grow_2_1 : decode cJ2_grow_2 1 = .ok (.getfield 9, 3) := dk_180 0 9 (dk_at dksJ2_grow_2_0 1 rfl rfl)
theorem dJ2_grow_2_4 : decode cJ2_grow_2 4 = .ok (.arraylength, 1) := dk_190 (dk_at dksJ2_grow_2_0 4 rfl rfl)
theorem dJ2_grow_2_5 : decode cJ2_grow_2 5 = .ok (.istore_n 2, 1) := dk_61 (dk_at dksJ2_grow_2_0 5 rfl rfl)
theorem dJ2_grow_2_6 : decode cJ2_grow_2 6 = .ok (.iload_n 2, 1) := dk_28 (dk_at dksJ2_grow_2_0 6 rfl rfl)
theorem dJ2_grow_2_7 : decode cJ2_grow_2 7 = .ok (.ifCond .gt 13, 3) := dk_157 0 13 (dk_at dksJ2_grow_2_0 7 rfl rfl)
theorem dJ2_grow_2_10 : decode cJ2_grow_2 10 = .ok (.aload_n 0, 1) := dk_42 (dk_at dksJ2_grow_2_0 10 rfl rfl)
theorem dJ2_grow_2_11 : decode cJ2_grow_2 11 = .ok (.getfield 9, 3) := dk_180 0 9 (dk_at dksJ2_grow_2_0 11 rfl rfl)
theorem dJ2_grow_2_14 : decode cJ2_grow_2 14 = .ok (.getstatic 39, 3) := dk_178 0 39 (dk_at dksJ2_grow_2_0 14 rfl rfl)
theorem dJ2_grow_2_17 : decode cJ2_grow_2 17 = .ok (.if_acmp .eq 28, 3) := dk_165 0 28 (dk_at dksJ2_grow_2_0 17 rfl rfl)
theorem dJ2_grow_2_20 : decode cJ2_grow_2 20 = .ok (.iload_n 2, 1) := dk_28 (dk_at dksJ2_grow_2_0 20 rfl rfl)
theorem dJ2_grow_2_21 : decode cJ2_grow_2 21 = .ok (.iload_n 1, 1) := dk_27 (dk_at dksJ2_grow_2_0 21 rfl rfl)
theorem dJ2_grow_2_22 : decode cJ2_grow_2 22 = .ok (.iload_n 2, 1) := dk_28 (dk_at dksJ2_grow_2_0 22 rfl rfl)
theorem dJ2_grow_2_23 : decode cJ2_grow_2 23 = .ok (.isub, 1) := dk_100 (dk_at dksJ2_grow_2_0 23 rfl rfl)
theorem dJ2_grow_2_24 : decode cJ2_grow_2 24 = .ok (.iload_n 2, 1) := dk_28 (dk_at dksJ2_grow_2_1 0 rfl rfl)
theorem dJ2_grow_2_25 : decode cJ2_grow_2 25 = .ok (.iconst 1, 1) := dk_4 (dk_at dksJ2_grow_2_1 1 rfl rfl)
theorem dJ2_grow_2_26 : decode cJ2_grow_2 26 = .ok (.ishr, 1) := dk_122 (dk_at dksJ2_grow_2_1 2 rfl rfl)
theorem dJ2_grow_2_27 : decode cJ2_grow_2 27 = .ok (.invokestatic 73, 3) := dk_184 0 73 (dk_at dksJ2_grow_2_1 3 rfl rfl)
theorem dJ2_grow_2_30 : decode cJ2_grow_2 30 = .ok (.istore_n 3, 1) := dk_62 (dk_at dksJ2_grow_2_1 6 rfl rfl)
theorem dJ2_grow_2_31 : decode cJ2_grow_2 31 = .ok (.aload_n 0, 1) := dk_42 (dk_at dksJ2_grow_2_1 7 rfl rfl)
theorem dJ2_grow_2_32 : decode cJ2_grow_2 32 = .ok (.aload_n 0, 1) := dk_42 (dk_at dksJ2_grow_2_1 8 rfl rfl)
theorem dJ2_grow_2_33 : decode cJ2_grow_2 33 = .ok (.getfield 9, 3) := dk_180 0 9 (dk_at dksJ2_grow_2_1 9 rfl rfl)
theorem dJ2_grow_2_36 : decode cJ2_grow_2 36 = .ok (.iload_n 3, 1) := dk_29 (dk_at dksJ2_grow_2_1 12 rfl rfl)
theorem dJ2_grow_2_37 : decode cJ2_grow_2 37 = .ok (.invokestatic 66, 3) := dk_184 0 66 (dk_at dksJ2_grow_2_1 13 rfl rfl)
theorem dJ2_grow_2_40 : decode cJ2_grow_2 40 = .ok (.dup_x1, 1) := dk_90 (dk_at dksJ2_grow_2_1 16 rfl rfl)
theorem dJ2_grow_2_41 : decode cJ2_grow_2 41 = .ok (.putfield 9, 3) := dk_181 0 9 (dk_at dksJ2_grow_2_1 17 rfl rfl)
theorem dJ2_grow_2_44 : decode cJ2_grow_2 44 = .ok (.areturn, 1) := dk_176 (dk_at dksJ2_grow_2_1 20 rfl rfl)
theorem dJ2_grow_2_45 : decode cJ2_grow_2 45 = .ok (.aload_n 0, 1) := dk_42 (dk_at dksJ2_grow_2_1 21 rfl rfl)
theorem dJ2_grow_2_46 : decode cJ2_grow_2 46 = .ok (.bipush 10, 2) := dk_16 10 (dk_at dksJ2_grow_2_1 22 rfl rfl)
theorem dJ2_grow_2_48 : decode cJ2_grow_2 48 = .ok (.iload_n 1, 1) := dk_27 (dk_at dksJ2_grow_2_2 0 rfl rfl)
theorem dJ2_grow_2_49 : decode cJ2_grow_2 49 = .ok (.invokestatic 79, 3) := dk_184 0 79 (dk_at dksJ2_grow_2_2 1 rfl rfl)
theorem dJ2_grow_2_52 : decode cJ2_grow_2 52 = .ok (.anewarray 7, 3) := dk_189 0 7 (dk_at dksJ2_grow_2_2 4 rfl rfl)
theorem dJ2_grow_2_55 : decode cJ2_grow_2 55 = .ok (.dup_x1, 1) := dk_90 (dk_at dksJ2_grow_2_2 7 rfl rfl)
theorem dJ2_grow_2_56 : decode cJ2_grow_2 56 = .ok (.putfield 9, 3) := dk_181 0 9 (dk_at dksJ2_grow_2_2 8 rfl rfl)
theorem dJ2_grow_2_59 : decode cJ2_grow_2 59 = .ok (.areturn, 1) := dk_176 (dk_at dksJ2_grow_2_2 11 rfl rfl)
theorem q104 : (Jvm.Cond.initialized "java/util/ArrayList") ∈ lw_all := lw_g (lw_at lw_m1 5 rfl) rfl
theorem q151 : (Jvm.Cond.instantiable "java/util/ArrayList" (3 : Nat)) ∈ lw_all := lw_g (lw_at lw_m1 52 rfl) rfl
theorem q153 : (Jvm.Cond.instanceMethod ({ cls := "java/util/ArrayList", name := "<init>", desc := "()V" } : Jvm.MethodName)) ∈ lw_all := lw_g (lw_at lw_m1 54 rfl) rfl
theorem q154 : (Jvm.Cond.code ({ cls := "java/util/ArrayList", name := "<init>", desc := "()V" } : Jvm.MethodName) prog_39_method_2_code (1 : Nat) (Option.none : Option Jvm.ClassFile.FieldType)) ∈ lw_all := lw_g (lw_at lw_m1 55 rfl) rfl
theorem q155 : (Jvm.Cond.methodLink "java/util/ArrayList" (1 : Nat) ({ cls := "java/util/AbstractList", name := "<init>", desc := "()V" } : Jvm.MethodName)) ∈ lw_all := lw_g (lw_at lw_m1 56 rfl) rfl
theorem q162 : (Jvm.Cond.fieldLink "java/util/ArrayList" (39 : Nat) "java/util/ArrayList" "DEFAULTCAPACITY_EMPTY_ELEMENTDATA" "[Ljava/lang/Object;") ∈ lw_all := lw_g (lw_at lw_m1 63 rfl) rfl
theorem q163 : (Jvm.Cond.laysStatic "java/util/ArrayList" "DEFAULTCAPACITY_EMPTY_ELEMENTDATA" "[Ljava/lang/Object;") ∈ lw_tbl := lw_at lw_m1 64 rfl
theorem q164 : (Jvm.Cond.fieldLink "java/util/ArrayList" (9 : Nat) "java/util/ArrayList" "elementData" "[Ljava/lang/Object;") ∈ lw_all := lw_g (lw_at lw_m1 65 rfl) rfl
theorem q165 : (Jvm.Cond.fieldLink "java/util/ArrayList" (48 : Nat) "java/util/ArrayList" "size" "I") ∈ lw_all := lw_g (lw_at lw_m1 66 rfl) rfl
theorem q167 : (Jvm.Cond.fieldLink "java/util/ArrayList" (63 : Nat) "java/util/ArrayList" "modCount" "I") ∈ lw_all := lw_g (lw_at lw_m1 68 rfl) rfl
theorem q168 : (Jvm.Cond.sameField "java/util/ArrayList" "java/util/AbstractList" "modCount" "I") ∈ lw_all := lw_g (lw_at lw_m1 69 rfl) rfl
theorem q169 : (Jvm.Cond.lays "java/util/ArrayList" "java/util/ArrayList" "elementData" "[Ljava/lang/Object;") ∈ lw_all := lw_g (lw_at lw_m1 70 rfl) rfl
theorem q170 : (Jvm.Cond.soleField "java/util/ArrayList" "elementData") ∈ lw_all := lw_g (lw_at lw_m1 71 rfl) rfl
theorem q171 : (Jvm.Cond.lays "java/util/ArrayList" "java/util/ArrayList" "size" "I") ∈ lw_all := lw_g (lw_at lw_m1 72 rfl) rfl
theorem q172 : (Jvm.Cond.soleField "java/util/ArrayList" "size") ∈ lw_all := lw_g (lw_at lw_m1 73 rfl) rfl
theorem q173 : (Jvm.Cond.lays "java/util/ArrayList" "java/util/AbstractList" "modCount" "I") ∈ lw_all := lw_g (lw_at lw_m1 74 rfl) rfl
theorem q175 : (Jvm.Cond.superclass "java/util/ArrayList" "java/util/AbstractList") ∈ lw_all := lw_g (lw_at lw_m1 76 rfl) rfl
theorem q417 : (Jvm.Cond.castable "java/util/ArrayList" "java/util/List") ∈ lw_tbl := lw_at lw_m2 78 rfl
theorem q418 : (Jvm.Cond.selects "java/util/ArrayList" ({ cls := "java/util/List", name := "isEmpty", desc := "()Z" } : Jvm.MethodName) ({ cls := "java/util/ArrayList", name := "isEmpty", desc := "()Z" } : Jvm.MethodName)) ∈ lw_all := lw_g (lw_at lw_m2 79 rfl) rfl
theorem q419 : (Jvm.Cond.unhidden "java/util/ArrayList" "isEmpty" "()Z") ∈ lw_tbl := lw_at lw_m2 80 rfl
theorem q420 : (Jvm.Cond.instanceMethod ({ cls := "java/util/ArrayList", name := "isEmpty", desc := "()Z" } : Jvm.MethodName)) ∈ lw_all := lw_g (lw_at lw_m2 81 rfl) rfl
theorem q421 : (Jvm.Cond.publicMethod ({ cls := "java/util/ArrayList", name := "isEmpty", desc := "()Z" } : Jvm.MethodName)) ∈ lw_tbl := lw_at lw_m2 82 rfl
theorem q422 : (Jvm.Cond.code ({ cls := "java/util/ArrayList", name := "isEmpty", desc := "()Z" } : Jvm.MethodName) prog_39_method_9_code (1 : Nat) (Option.some Jvm.ClassFile.FieldType.boolean)) ∈ lw_all := lw_g (lw_at lw_m2 83 rfl) rfl
theorem q427 : (Jvm.Cond.selects "java/util/ArrayList" ({ cls := "java/util/List", name := "size", desc := "()I" } : Jvm.MethodName) ({ cls := "java/util/ArrayList", name := "size", desc := "()I" } : Jvm.MethodName)) ∈ lw_all := lw_g (lw_at lw_m2 88 rfl) rfl
theorem q428 : (Jvm.Cond.unhidden "java/util/ArrayList" "size" "()I") ∈ lw_tbl := lw_at lw_m2 89 rfl
theorem q429 : (Jvm.Cond.instanceMethod ({ cls := "java/util/ArrayList", name := "size", desc := "()I" } : Jvm.MethodName)) ∈ lw_all := lw_g (lw_at lw_m2 90 rfl) rfl
theorem q430 : (Jvm.Cond.publicMethod ({ cls := "java/util/ArrayList", name := "size", desc := "()I" } : Jvm.MethodName)) ∈ lw_tbl := lw_at lw_m2 91 rfl
theorem q431 : (Jvm.Cond.code ({ cls := "java/util/ArrayList", name := "size", desc := "()I" } : Jvm.MethodName) prog_39_method_8_code (1 : Nat) (Option.some Jvm.ClassFile.FieldType.int)) ∈ lw_all := lw_g (lw_at lw_m2 92 rfl) rfl
theorem q436 : (Jvm.Cond.selects "java/util/ArrayList" ({ cls := "java/util/List", name := "remove", desc := "(I)Ljava/lang/Object;" } : Jvm.MethodName) ({ cls := "java/util/ArrayList", name := "remove", desc := "(I)Ljava/lang/Object;" } : Jvm.MethodName)) ∈ lw_all := lw_g (lw_at lw_m2 97 rfl) rfl
theorem q437 : (Jvm.Cond.unhidden "java/util/ArrayList" "remove" "(I)Ljava/lang/Object;") ∈ lw_tbl := lw_at lw_m2 98 rfl
theorem q438 : (Jvm.Cond.instanceMethod ({ cls := "java/util/ArrayList", name := "remove", desc := "(I)Ljava/lang/Object;" } : Jvm.MethodName)) ∈ lw_all := lw_g (lw_at lw_m2 99 rfl) rfl
theorem q439 : (Jvm.Cond.publicMethod ({ cls := "java/util/ArrayList", name := "remove", desc := "(I)Ljava/lang/Object;" } : Jvm.MethodName)) ∈ lw_tbl := lw_at lw_m2 100 rfl
theorem q440 : (Jvm.Cond.code ({ cls := "java/util/ArrayList", name := "remove", desc := "(I)Ljava/lang/Object;" } : Jvm.MethodName) prog_39_method_29_code (4 : Nat) (Option.some (Jvm.ClassFile.FieldType.object "java/lang/Object"))) ∈ lw_all := lw_g (lw_at lw_m2 101 rfl) rfl
theorem q441 : (Jvm.Cond.methodLink "java/util/ArrayList" (118 : Nat) ({ cls := "java/util/Objects", name := "checkIndex", desc := "(II)I" } : Jvm.MethodName)) ∈ lw_all := lw_g (lw_at lw_m2 102 rfl) rfl
theorem q447 : (Jvm.Cond.methodLink "java/util/ArrayList" (144 : Nat) ({ cls := "java/util/ArrayList", name := "fastRemove", desc := "([Ljava/lang/Object;I)V" } : Jvm.MethodName)) ∈ lw_all := lw_g (lw_at lw_m2 108 rfl) rfl
theorem q448 : (Jvm.Cond.privateMethod ({ cls := "java/util/ArrayList", name := "fastRemove", desc := "([Ljava/lang/Object;I)V" } : Jvm.MethodName)) ∈ lw_tbl := lw_at lw_m2 109 rfl
theorem q449 : (Jvm.Cond.instanceMethod ({ cls := "java/util/ArrayList", name := "fastRemove", desc := "([Ljava/lang/Object;I)V" } : Jvm.MethodName)) ∈ lw_all := lw_g (lw_at lw_m2 110 rfl) rfl
theorem q450 : (Jvm.Cond.code ({ cls := "java/util/ArrayList", name := "fastRemove", desc := "([Ljava/lang/Object;I)V" } : Jvm.MethodName) prog_39_method_39_code (4 : Nat) (Option.none : Option Jvm.ClassFile.FieldType)) ∈ lw_all := lw_g (lw_at lw_m2 111 rfl) rfl
theorem q451 : (Jvm.Cond.methodLink "java/util/ArrayList" (112 : Nat) ({ cls := "java/lang/System", name := "arraycopy", desc := "(Ljava/lang/Object;ILjava/lang/Object;II)V" } : Jvm.MethodName)) ∈ lw_all := lw_g (lw_at lw_m2 112 rfl) rfl
theorem q478 : (Jvm.Cond.selects "java/util/ArrayList" ({ cls := "java/util/List", name := "get", desc := "(I)Ljava/lang/Object;" } : Jvm.MethodName) ({ cls := "java/util/ArrayList", name := "get", desc := "(I)Ljava/lang/Object;" } : Jvm.MethodName)) ∈ lw_all := lw_g (lw_at lw_m2 139 rfl) rfl
theorem q479 : (Jvm.Cond.unhidden "java/util/ArrayList" "get" "(I)Ljava/lang/Object;") ∈ lw_tbl := lw_at lw_m2 140 rfl
theorem q480 : (Jvm.Cond.instanceMethod ({ cls := "java/util/ArrayList", name := "get", desc := "(I)Ljava/lang/Object;" } : Jvm.MethodName)) ∈ lw_all := lw_g (lw_at lw_m2 141 rfl) rfl
theorem q481 : (Jvm.Cond.publicMethod ({ cls := "java/util/ArrayList", name := "get", desc := "(I)Ljava/lang/Object;" } : Jvm.MethodName)) ∈ lw_tbl := lw_at lw_m2 142 rfl
theorem q482 : (Jvm.Cond.code ({ cls := "java/util/ArrayList", name := "get", desc := "(I)Ljava/lang/Object;" } : Jvm.MethodName) prog_39_method_20_code (2 : Nat) (Option.some (Jvm.ClassFile.FieldType.object "java/lang/Object"))) ∈ lw_all := lw_g (lw_at lw_m2 143 rfl) rfl
theorem q483 : (Jvm.Cond.methodLink "java/util/ArrayList" (123 : Nat) ({ cls := "java/util/ArrayList", name := "elementData", desc := "(I)Ljava/lang/Object;" } : Jvm.MethodName)) ∈ lw_all := lw_g (lw_at lw_m2 144 rfl) rfl
theorem q484 : (Jvm.Cond.instanceMethod ({ cls := "java/util/ArrayList", name := "elementData", desc := "(I)Ljava/lang/Object;" } : Jvm.MethodName)) ∈ lw_all := lw_g (lw_at lw_m2 145 rfl) rfl
theorem q485 : (Jvm.Cond.selects "java/util/ArrayList" ({ cls := "java/util/ArrayList", name := "elementData", desc := "(I)Ljava/lang/Object;" } : Jvm.MethodName) ({ cls := "java/util/ArrayList", name := "elementData", desc := "(I)Ljava/lang/Object;" } : Jvm.MethodName)) ∈ lw_all := lw_g (lw_at lw_m2 146 rfl) rfl
theorem q486 : (Jvm.Cond.code ({ cls := "java/util/ArrayList", name := "elementData", desc := "(I)Ljava/lang/Object;" } : Jvm.MethodName) prog_39_method_18_code (2 : Nat) (Option.some (Jvm.ClassFile.FieldType.object "java/lang/Object"))) ∈ lw_all := lw_g (lw_at lw_m2 147 rfl) rfl
theorem q568 : (Jvm.Cond.instanceMethod ({ cls := "java/util/ArrayList", name := "<init>", desc := "(Ljava/util/Collection;)V" } : Jvm.MethodName)) ∈ lw_all := lw_g (lw_at lw_m2 229 rfl) rfl
theorem q569 : (Jvm.Cond.code ({ cls := "java/util/ArrayList", name := "<init>", desc := "(Ljava/util/Collection;)V" } : Jvm.MethodName) prog_39_method_3_code (3 : Nat) (Option.none : Option Jvm.ClassFile.FieldType)) ∈ lw_all := lw_g (lw_at lw_m2 230 rfl) rfl
theorem q570 : (Jvm.Cond.interfaceEntry "java/util/ArrayList" (42 : Nat)) ∈ lw_tbl := lw_at lw_m2 231 rfl
theorem q571 : (Jvm.Cond.methodLink "java/util/ArrayList" (42 : Nat) ({ cls := "java/util/Collection", name := "toArray", desc := "()[Ljava/lang/Object;" } : Jvm.MethodName)) ∈ lw_all := lw_g (lw_at lw_m2 232 rfl) rfl
theorem q574 : (Jvm.Cond.castable "java/util/ArrayList" "java/util/Collection") ∈ lw_tbl := lw_at lw_m2 235 rfl
theorem q575 : (Jvm.Cond.selects "java/util/ArrayList" ({ cls := "java/util/Collection", name := "toArray", desc := "()[Ljava/lang/Object;" } : Jvm.MethodName) ({ cls := "java/util/ArrayList", name := "toArray", desc := "()[Ljava/lang/Object;" } : Jvm.MethodName)) ∈ lw_all := lw_g (lw_at lw_m2 236 rfl) rfl
theorem q576 : (Jvm.Cond.unhidden "java/util/ArrayList" "toArray" "()[Ljava/lang/Object;") ∈ lw_tbl := lw_at lw_m2 237 rfl
theorem q577 : (Jvm.Cond.instanceMethod ({ cls := "java/util/ArrayList", name := "toArray", desc := "()[Ljava/lang/Object;" } : Jvm.MethodName)) ∈ lw_all := lw_g (lw_at lw_m2 238 rfl) rfl
theorem q578 : (Jvm.Cond.publicMethod ({ cls := "java/util/ArrayList", name := "toArray", desc := "()[Ljava/lang/Object;" } : Jvm.MethodName)) ∈ lw_tbl := lw_at lw_m2 239 rfl
theorem q579 : (Jvm.Cond.code ({ cls := "java/util/ArrayList", name := "toArray", desc := "()[Ljava/lang/Object;" } : Jvm.MethodName) prog_39_method_16_code (1 : Nat) (Option.some (Jvm.ClassFile.FieldType.array (Jvm.ClassFile.FieldType.object "java/lang/Object")))) ∈ lw_all := lw_g (lw_at lw_m3 0 rfl) rfl
theorem q580 : (Jvm.Cond.methodLink "java/util/ArrayList" (66 : Nat) ({ cls := "java/util/Arrays", name := "copyOf", desc := "([Ljava/lang/Object;I)[Ljava/lang/Object;" } : Jvm.MethodName)) ∈ lw_all := lw_g (lw_at lw_m3 1 rfl) rfl
theorem q603 : (Jvm.Cond.selects "java/util/ArrayList" ({ cls := "java/lang/Object", name := "getClass", desc := "()Ljava/lang/Class;" } : Jvm.MethodName) ({ cls := "java/lang/Object", name := "getClass", desc := "()Ljava/lang/Class;" } : Jvm.MethodName)) ∈ lw_all := lw_g (lw_at lw_m3 24 rfl) rfl
theorem q616 : (Jvm.Cond.interfaceEntry "java/util/ArrayList" (52 : Nat)) ∈ lw_tbl := lw_at lw_m3 37 rfl
theorem q617 : (Jvm.Cond.methodLink "java/util/ArrayList" (52 : Nat) ({ cls := "java/util/Collection", name := "getClass", desc := "()Ljava/lang/Class;" } : Jvm.MethodName)) ∈ lw_all := lw_g (lw_at lw_m3 38 rfl) rfl
theorem q620 : (Jvm.Cond.unhidden "java/util/ArrayList" "getClass" "()Ljava/lang/Class;") ∈ lw_tbl := lw_at lw_m3 41 rfl
theorem q622 : (Jvm.Cond.classLink "java/util/ArrayList" (10 : Nat) "java/util/ArrayList") ∈ lw_all := lw_g (lw_at lw_m3 43 rfl) rfl
theorem q623 : (Jvm.Cond.classLink "java/util/ArrayList" (56 : Nat) "[Ljava/lang/Object;") ∈ lw_all := lw_g (lw_at lw_m3 44 rfl) rfl
theorem q624 : (Jvm.Cond.methodLink "java/util/ArrayList" (57 : Nat) ({ cls := "java/util/Arrays", name := "copyOf", desc := "([Ljava/lang/Object;ILjava/lang/Class;)[Ljava/lang/Object;" } : Jvm.MethodName)) ∈ lw_all := lw_g (lw_at lw_m3 45 rfl) rfl
theorem q625 : (Jvm.Cond.fieldLink "java/util/ArrayList" (15 : Nat) "java/util/ArrayList" "EMPTY_ELEMENTDATA" "[Ljava/lang/Object;") ∈ lw_all := lw_g (lw_at lw_m3 46 rfl) rfl
theorem q626 : (Jvm.Cond.laysStatic "java/util/ArrayList" "EMPTY_ELEMENTDATA" "[Ljava/lang/Object;") ∈ lw_tbl := lw_at lw_m3 47 rfl
theorem q941 : (Jvm.Cond.selects "java/util/ArrayList" ({ cls := "java/util/List", name := "add", desc := "(Ljava/lang/Object;)Z" } : Jvm.MethodName) ({ cls := "java/util/ArrayList", name := "add", desc := "(Ljava/lang/Object;)Z" } : Jvm.MethodName)) ∈ lw_all := lw_g (lw_at lw_m4 122 rfl) rfl
theorem q942 : (Jvm.Cond.unhidden "java/util/ArrayList" "add" "(Ljava/lang/Object;)Z") ∈ lw_tbl := lw_at lw_m4 123 rfl
theorem q943 : (Jvm.Cond.instanceMethod ({ cls := "java/util/ArrayList", name := "add", desc := "(Ljava/lang/Object;)Z" } : Jvm.MethodName)) ∈ lw_all := lw_g (lw_at lw_m4 124 rfl) rfl
theorem q944 : (Jvm.Cond.publicMethod ({ cls := "java/util/ArrayList", name := "add", desc := "(Ljava/lang/Object;)Z" } : Jvm.MethodName)) ∈ lw_tbl := lw_at lw_m4 125 rfl
theorem q945 : (Jvm.Cond.code ({ cls := "java/util/ArrayList", name := "add", desc := "(Ljava/lang/Object;)Z" } : Jvm.MethodName) prog_39_method_25_code (2 : Nat) (Option.some Jvm.ClassFile.FieldType.boolean)) ∈ lw_all := lw_g (lw_at lw_m4 126 rfl) rfl
theorem q946 : (Jvm.Cond.methodLink "java/util/ArrayList" (131 : Nat) ({ cls := "java/util/ArrayList", name := "add", desc := "(Ljava/lang/Object;[Ljava/lang/Object;I)V" } : Jvm.MethodName)) ∈ lw_all := lw_g (lw_at lw_m4 127 rfl) rfl
theorem q947 : (Jvm.Cond.privateMethod ({ cls := "java/util/ArrayList", name := "add", desc := "(Ljava/lang/Object;[Ljava/lang/Object;I)V" } : Jvm.MethodName)) ∈ lw_tbl := lw_at lw_m4 128 rfl
theorem q948 : (Jvm.Cond.instanceMethod ({ cls := "java/util/ArrayList", name := "add", desc := "(Ljava/lang/Object;[Ljava/lang/Object;I)V" } : Jvm.MethodName)) ∈ lw_all := lw_g (lw_at lw_m4 129 rfl) rfl
theorem q949 : (Jvm.Cond.code ({ cls := "java/util/ArrayList", name := "add", desc := "(Ljava/lang/Object;[Ljava/lang/Object;I)V" } : Jvm.MethodName) prog_39_method_24_code (4 : Nat) (Option.none : Option Jvm.ClassFile.FieldType)) ∈ lw_all := lw_g (lw_at lw_m4 130 rfl) rfl
theorem q950 : (Jvm.Cond.methodLink "java/util/ArrayList" (129 : Nat) ({ cls := "java/util/ArrayList", name := "grow", desc := "()[Ljava/lang/Object;" } : Jvm.MethodName)) ∈ lw_all := lw_g (lw_at lw_m4 131 rfl) rfl
theorem q951 : (Jvm.Cond.privateMethod ({ cls := "java/util/ArrayList", name := "grow", desc := "()[Ljava/lang/Object;" } : Jvm.MethodName)) ∈ lw_tbl := lw_at lw_m4 132 rfl
theorem q952 : (Jvm.Cond.instanceMethod ({ cls := "java/util/ArrayList", name := "grow", desc := "()[Ljava/lang/Object;" } : Jvm.MethodName)) ∈ lw_all := lw_g (lw_at lw_m4 133 rfl) rfl
theorem q953 : (Jvm.Cond.code ({ cls := "java/util/ArrayList", name := "grow", desc := "()[Ljava/lang/Object;" } : Jvm.MethodName) prog_39_method_7_code (1 : Nat) (Option.some (Jvm.ClassFile.FieldType.array (Jvm.ClassFile.FieldType.object "java/lang/Object")))) ∈ lw_all := lw_g (lw_at lw_m4 134 rfl) rfl
theorem q954 : (Jvm.Cond.methodLink "java/util/ArrayList" (69 : Nat) ({ cls := "java/util/ArrayList", name := "grow", desc := "(I)[Ljava/lang/Object;" } : Jvm.MethodName)) ∈ lw_all := lw_g (lw_at lw_m4 135 rfl) rfl
theorem q955 : (Jvm.Cond.privateMethod ({ cls := "java/util/ArrayList", name := "grow", desc := "(I)[Ljava/lang/Object;" } : Jvm.MethodName)) ∈ lw_tbl := lw_at lw_m4 136 rfl
theorem q956 : (Jvm.Cond.instanceMethod ({ cls := "java/util/ArrayList", name := "grow", desc := "(I)[Ljava/lang/Object;" } : Jvm.MethodName)) ∈ lw_all := lw_g (lw_at lw_m4 137 rfl) rfl
theorem q957 : (Jvm.Cond.code ({ cls := "java/util/ArrayList", name := "grow", desc := "(I)[Ljava/lang/Object;" } : Jvm.MethodName) prog_39_method_6_code (4 : Nat) (Option.some (Jvm.ClassFile.FieldType.array (Jvm.ClassFile.FieldType.object "java/lang/Object")))) ∈ lw_all := lw_g (lw_at lw_m4 138 rfl) rfl
theorem q958 : (Jvm.Cond.methodLink "java/util/ArrayList" (73 : Nat) ({ cls := "jdk/internal/util/ArraysSupport", name := "newLength", desc := "(III)I" } : Jvm.MethodName)) ∈ lw_all := lw_g (lw_at lw_m4 139 rfl) rfl
theorem q966 : (Jvm.Cond.methodLink "java/util/ArrayList" (79 : Nat) ({ cls := "java/lang/Math", name := "max", desc := "(II)I" } : Jvm.MethodName)) ∈ lw_all := lw_g (lw_at lw_m4 147 rfl) rfl
theorem q967 : (Jvm.Cond.classLink "java/util/ArrayList" (7 : Nat) "java/lang/Object") ∈ lw_all := lw_g (lw_at lw_m4 148 rfl) rfl
theorem q1928 : (Jvm.Cond.castable "java/util/ArrayList" "java/lang/Object") ∈ lw_tbl := lw_at lw_m8 149 rfl
theorem in_J2 : ∀ w ∈ wsJ20, w ∈ lw_all := lw_in wsJ20 [173, 169, 171] (by decide +kernel) (by decide +kernel)
/-! java/lang/Throwable -/
set_option maxRecDepth 100000
def RJ3 : String := "java/lang/Throwable"
def TJ3 : u_T := fun k => match k with
  | 0 => ("java/lang/Throwable", "cause", "Ljava/lang/Throwable;", false)
  | 1 => ("java/lang/Throwable", "stackTrace", "[Ljava/lang/StackTraceElement;", false)
  | 2 => ("java/lang/Throwable", "suppressedExceptions", "Ljava/util/List;", false)
  | 3 => ("java/lang/Throwable", "detailMessage", "Ljava/lang/String;", false)
  | _ => ("java/lang/Throwable", "backtrace", "Ljava/lang/Object;", false)
def tyJ3 : Nat → FieldType := fun k => match k with
  | 0 => .object "java/lang/Throwable"
  | 1 => .array (.object "java/lang/StackTraceElement")
  | 2 => .object "java/util/List"
  | 3 => .object "java/lang/String"
  | _ => .object "java/lang/Object"
abbrev wsJ30 : List Cond := u_ws RJ3 TJ3 5
theorem nmJ3 : ∀ a, a < 5 → ∀ b, b < 5 → a ≠ b → (TJ3 a).2.1 ≠ (TJ3 b).2.1 := by decide +kernel
theorem tyJ3_ok : ∀ k, k < 5 → parseFieldDescriptor (TJ3 k).2.2.1 = some (tyJ3 k) := by decide +kernel
abbrev cJ3_init : ByteArray := prog_34_method_1_code
def yJ3_init : MethodName := ⟨RJ3, "<init>", "()V"⟩
def dkwJ3_init_1 : List UInt8 := [182, 0, 27, 87, 177]
abbrev dktJ3_init_1 : List UInt8 := dkwJ3_init_1 ++ []
def dkwJ3_init_0 : List UInt8 := [42, 183, 0, 1, 42, 42, 181, 0, 7, 42, 178, 0, 13, 181, 0, 17, 42, 178, 0, 20, 181, 0, 24, 42]
abbrev dktJ3_init_0 : List UInt8 := dkwJ3_init_0 ++ dktJ3_init_1
theorem dksJ3_init_0 : cJ3_init.data.toList.drop 0 = dktJ3_init_0 := by decide +kernel
theorem dksJ3_init_1 : cJ3_init.data.toList.drop 24 = dktJ3_init_1 := dk_seg dksJ3_init_0 24 rfl rfl
theorem dJ3_init_0 : decode cJ3_init 0 = .ok (.aload_n 0, 1) := dk_42 (dk_at dksJ3_init_0 0 rfl rfl)
theorem dJ3_init_1 : decode cJ3_init 1 = .ok (.invokespecial 1, 3) := dk_183 0 1 (dk_at dksJ3_init_0 1 rfl rfl)
theorem dJ3_init_4 : decode cJ3_init 4 = .ok (.aload_n 0, 1) := dk_42 (dk_at dksJ3_init_0 4 rfl rfl)
theorem dJ3_init_5 : decode cJ3_init 5 = .ok (.aload_n 0, 1) := dk_42 (dk_at dksJ3_init_0 5 rfl rfl)
theorem dJ3_init_6 : decode cJ3_init 6 = .ok (.putfield 7, 3) := dk_181 0 7 (dk_at dksJ3_init_0 6 rfl rfl)
theorem dJ3_init_9 : decode cJ3_init 9 = .ok (.aload_n 0, 1) := dk_42 (dk_at dksJ3_init_0 9 rfl rfl)
theorem dJ3_init_10 : decode cJ3_init 10 = .ok (.getstatic 13, 3) := dk_178 0 13 (dk_at dksJ3_init_0 10 rfl rfl)
theorem dJ3_init_13 : decode cJ3_init 13 = .ok (.putfield 17, 3) := dk_181 0 17 (dk_at dksJ3_init_0 13 rfl rfl)
theorem dJ3_init_16 : decode cJ3_init 16 = .ok (.aload_n 0, 1) := dk_42 (dk_at dksJ3_init_0 16 rfl rfl)
theorem dJ3_init_17 : decode cJ3_init 17 = .ok (.getstatic 20, 3) := dk_178 0 20 (dk_at dksJ3_init_0 17 rfl rfl)
theorem dJ3_init_20 : decode cJ3_init 20 = .ok (.putfield 24, 3) := dk_181 0 24 (dk_at dksJ3_init_0 20 rfl rfl)
theorem dJ3_init_23 : decode cJ3_init 23 = .ok (.aload_n 0, 1) := dk_42 (dk_at dksJ3_init_0 23 rfl rfl)
theorem dJ3_init_24 : decode cJ3_init 24 = .ok (.invokevirtual 27, 3) := dk_182 0 27 (dk_at dksJ3_init_1 0 rfl rfl)
theorem dJ3_init_27 : decode cJ3_init 27 = .ok (.pop, 1) := dk_87 (dk_at dksJ3_init_1 3 rfl rfl)
theorem dJ3_init_28 : decode cJ3_init 28 = .ok (.return_, 1) := dk_177 (dk_at dksJ3_init_1 4 rfl rfl)
abbrev cJ3_init_2 : ByteArray := prog_34_method_5_code
def yJ3_init_2 : MethodName := ⟨RJ3, "<init>", "(Ljava/lang/String;Ljava/lang/Throwable;ZZ)V"⟩
def dkwJ3_init_2_2 : List UInt8 := [44, 181, 0, 7, 29, 154, 0, 8, 42, 1, 181, 0, 24, 177]
abbrev dktJ3_init_2_2 : List UInt8 := dkwJ3_init_2_2 ++ []
def dkwJ3_init_2_1 : List UInt8 := [21, 4, 153, 0, 11, 42, 182, 0, 27, 87, 167, 0, 8, 42, 1, 181, 0, 17, 42, 43, 181, 0, 31, 42]
abbrev dktJ3_init_2_1 : List UInt8 := dkwJ3_init_2_1 ++ dktJ3_init_2_2
def dkwJ3_init_2_0 : List UInt8 := [42, 183, 0, 1, 42, 42, 181, 0, 7, 42, 178, 0, 13, 181, 0, 17, 42, 178, 0, 20, 181, 0, 24]
abbrev dktJ3_init_2_0 : List UInt8 := dkwJ3_init_2_0 ++ dktJ3_init_2_1
theorem dksJ3_init_2_0 : cJ3_init_2.data.toList.drop 0 = dktJ3_init_2_0 := by decide +kernel
theorem dksJ3_init_2_1 : cJ3_init_2.data.toList.drop 23 = dktJ3_init_2_1 := dk_seg dksJ3_init_2_0 23 rfl rfl
theorem dksJ3_init_2_2 : cJ3_init_2.data.toList.drop 47 = dktJ3_init_2_2 := dk_seg dksJ3_init_2_1 24 rfl rfl
theorem dJ3_init_2_0 : decode cJ3_init_2 0 = .ok (.aload_n 0, 1) := dk_42 (dk_at dksJ3_init_2_0 0 rfl rfl)
theorem dJ3_init_2_1 : decode cJ3_init_2 1 = .ok (.invokespecial 1, 3) := dk_183 0 1 (dk_at dksJ3_init_2_0 1 rfl rfl)
theorem dJ3_init_2_4 : decode cJ3_init_2 4 = .ok (.aload_n 0, 1) := dk_42 (dk_at dksJ3_init_2_0 4 rfl rfl)
theorem dJ3_init_2_5 : decode cJ3_init_2 5 = .ok (.aload_n 0, 1) := dk_42 (dk_at dksJ3_init_2_0 5 rfl rfl)
theorem dJ3_init_2_6 : decode cJ3_init_2 6 = .ok (.putfield 7, 3) := dk_181 0 7 (dk_at dksJ3_init_2_0 6 rfl rfl)
theorem dJ3_init_2_9 : decode cJ3_init_2 9 = .ok (.aload_n 0, 1) := dk_42 (dk_at dksJ3_init_2_0 9 rfl rfl)
theorem dJ3_init_2_10 : decode cJ3_init_2 10 = .ok (.getstatic 13, 3) := dk_178 0 13 (dk_at dksJ3_init_2_0 10 rfl rfl)
theorem dJ3_init_2_13 : decode cJ3_init_2 13 = .ok (.putfield 17, 3) := dk_181 0 17 (dk_at dksJ3_init_2_0 13 rfl rfl)
theorem dJ3_init_2_16 : decode cJ3_init_2 16 = .ok (.aload_n 0, 1) := dk_42 (dk_at dksJ3_init_2_0 16 rfl rfl)
theorem dJ3_init_2_17 : decode cJ3_init_2 17 = .ok (.getstatic 20, 3) := dk_178 0 20 (dk_at dksJ3_init_2_0 17 rfl rfl)
theorem dJ3_init_2_20 : decode cJ3_init_2 20 = .ok (.putfield 24, 3) := dk_181 0 24 (dk_at dksJ3_init_2_0 20 rfl rfl)
theorem dJ3_init_2_23 : decode cJ3_init_2 23 = .ok (.iload 4, 2) := dk_21 4 (dk_at dksJ3_init_2_1 0 rfl rfl)
theorem dJ3_init_2_25 : decode cJ3_init_2 25 = .ok (.ifCond .eq 11, 3) := dk_153 0 11 (dk_at dksJ3_init_2_1 2 rfl rfl)
theorem dJ3_init_2_28 : decode cJ3_init_2 28 = .ok (.aload_n 0, 1) := dk_42 (dk_at dksJ3_init_2_1 5 rfl rfl)
theorem dJ3_init_2_29 : decode cJ3_init_2 29 = .ok (.invokevirtual 27, 3) := dk_182 0 27 (dk_at dksJ3_init_2_1 6 rfl rfl)
theorem dJ3_init_2_32 : decode cJ3_init_2 32 = .ok (.pop, 1) := dk_87 (dk_at dksJ3_init_2_1 9 rfl rfl)
theorem dJ3_init_2_33 : decode cJ3_init_2 33 = .ok (.goto 8, 3) := dk_167 0 8 (dk_at dksJ3_init_2_1 10 rfl rfl)
theorem dJ3_init_2_36 : decode cJ3_init_2 36 = .ok (.aload_n 0, 1) := dk_42 (dk_at dksJ3_init_2_1 13 rfl rfl)
theorem dJ3_init_2_37 : decode cJ3_init_2 37 = .ok (.aconst_null, 1) := dk_1 (dk_at dksJ3_init_2_1 14 rfl rfl)
theorem dJ3_init_2_38 : decode cJ3_init_2 38 = .ok (.putfield 17, 3) := dk_181 0 17 (dk_at dksJ3_init_2_1 15 rfl rfl)
theorem dJ3_init_2_41 : decode cJ3_init_2 41 = .ok (.aload_n 0, 1) := dk_42 (dk_at dksJ3_init_2_1 18 rfl rfl)
theorem dJ3_init_2_42 : decode cJ3_init_2 42 = .ok (.aload_n 1, 1) := dk_43 (dk_at dksJ3_init_2_1 19 rfl rfl)
theorem dJ3_init_2_43 : decode cJ3_init_2 43 = .ok (.putfield 31, 3) := dk_181 0 31 (dk_at dksJ3_init_2_1 20 rfl rfl)
theorem dJ3_init_2_46 : decode cJ3_init_2 46 = .ok (.aload_n 0, 1) := dk_42 (dk_at dksJ3_init_2_1 23 rfl rfl)
theorem dJ3_init_2_47 : decode cJ3_init_2 47 = .ok (.aload_n 2, 1) := dk_44 (dk_at dksJ3_init_2_2 0 rfl rfl)
theorem dJ3_init_2_48 : decode cJ3_init_2 48 = .ok (.putfield 7, 3) := dk_181 0 7 (dk_at dksJ3_init_2_2 1 rfl rfl)
theorem dJ3_init_2_51 : decode cJ3_init_2 51 = .ok (.iload_n 3, 1) := dk_29 (dk_at dksJ3_init_2_2 4 rfl rfl)
theorem dJ3_init_2_52 : decode cJ3_init_2 52 = .ok (.ifCond .ne 8, 3) := dk_154 0 8 (dk_at dksJ3_init_2_2 5 rfl rfl)
theorem dJ3_init_2_55 : decode cJ3_init_2 55 = .ok (.aload_n 0, 1) := dk_42 (dk_at dksJ3_init_2_2 8 rfl rfl)
theorem dJ3_init_2_56 : decode cJ3_init_2 56 = .ok (.aconst_null, 1) := dk_1 (dk_at dksJ3_init_2_2 9 rfl rfl)
theorem dJ3_init_2_57 : decode cJ3_init_2 57 = .ok (.putfield 24, 3) := dk_181 0 24 (dk_at dksJ3_init_2_2 10 rfl rfl)
theorem dJ3_init_2_60 : decode cJ3_init_2 60 = .ok (.return_, 1) := dk_177 (dk_at dksJ3_init_2_2 13 rfl rfl)
theorem q114 : (Jvm.Cond.initialized "java/lang/Throwable") ∈ lw_all := lw_g (lw_at lw_m1 15 rfl) rfl
theorem q650 : (Jvm.Cond.declares ({ cls := "java/lang/Throwable", name := "<init>", desc := "()V" } : Jvm.MethodName)) ∈ lw_tbl := lw_at lw_m3 71 rfl
theorem q651 : (Jvm.Cond.declares ({ cls := "java/lang/Throwable", name := "<init>", desc := "(Ljava/lang/String;)V" } : Jvm.MethodName)) ∈ lw_tbl := lw_at lw_m3 72 rfl
theorem q655 : (Jvm.Cond.lays "java/lang/Throwable" "java/lang/Throwable" "cause" "Ljava/lang/Throwable;") ∈ lw_all := lw_g (lw_at lw_m3 76 rfl) rfl
theorem q657 : (Jvm.Cond.lays "java/lang/Throwable" "java/lang/Throwable" "stackTrace" "[Ljava/lang/StackTraceElement;") ∈ lw_all := lw_g (lw_at lw_m3 78 rfl) rfl
theorem q659 : (Jvm.Cond.lays "java/lang/Throwable" "java/lang/Throwable" "suppressedExceptions" "Ljava/util/List;") ∈ lw_all := lw_g (lw_at lw_m3 80 rfl) rfl
theorem q661 : (Jvm.Cond.lays "java/lang/Throwable" "java/lang/Throwable" "detailMessage" "Ljava/lang/String;") ∈ lw_all := lw_g (lw_at lw_m3 82 rfl) rfl
theorem q663 : (Jvm.Cond.lays "java/lang/Throwable" "java/lang/Throwable" "backtrace" "Ljava/lang/Object;") ∈ lw_all := lw_g (lw_at lw_m3 84 rfl) rfl
theorem q664 : (Jvm.Cond.fieldLink "java/lang/Throwable" (198 : Nat) "java/lang/Throwable" "backtrace" "Ljava/lang/Object;") ∈ lw_all := lw_g (lw_at lw_m3 85 rfl) rfl
theorem q665 : (Jvm.Cond.superclass "java/lang/Throwable" "java/lang/Object") ∈ lw_all := lw_g (lw_at lw_m3 86 rfl) rfl
theorem q666 : (Jvm.Cond.instanceMethod ({ cls := "java/lang/Throwable", name := "<init>", desc := "()V" } : Jvm.MethodName)) ∈ lw_all := lw_g (lw_at lw_m3 87 rfl) rfl
theorem q667 : (Jvm.Cond.code ({ cls := "java/lang/Throwable", name := "<init>", desc := "()V" } : Jvm.MethodName) prog_34_method_1_code (1 : Nat) (Option.none : Option Jvm.ClassFile.FieldType)) ∈ lw_all := lw_g (lw_at lw_m3 88 rfl) rfl
theorem q668 : (Jvm.Cond.methodLink "java/lang/Throwable" (1 : Nat) ({ cls := "java/lang/Object", name := "<init>", desc := "()V" } : Jvm.MethodName)) ∈ lw_all := lw_g (lw_at lw_m3 89 rfl) rfl
theorem q669 : (Jvm.Cond.fieldLink "java/lang/Throwable" (13 : Nat) "java/lang/Throwable" "UNASSIGNED_STACK" "[Ljava/lang/StackTraceElement;") ∈ lw_all := lw_g (lw_at lw_m3 90 rfl) rfl
theorem q670 : (Jvm.Cond.laysStatic "java/lang/Throwable" "UNASSIGNED_STACK" "[Ljava/lang/StackTraceElement;") ∈ lw_tbl := lw_at lw_m3 91 rfl
theorem q671 : (Jvm.Cond.fieldLink "java/lang/Throwable" (20 : Nat) "java/lang/Throwable" "SUPPRESSED_SENTINEL" "Ljava/util/List;") ∈ lw_all := lw_g (lw_at lw_m3 92 rfl) rfl
theorem q672 : (Jvm.Cond.laysStatic "java/lang/Throwable" "SUPPRESSED_SENTINEL" "Ljava/util/List;") ∈ lw_tbl := lw_at lw_m3 93 rfl
theorem q673 : (Jvm.Cond.methodLink "java/lang/Throwable" (27 : Nat) ({ cls := "java/lang/Throwable", name := "fillInStackTrace", desc := "()Ljava/lang/Throwable;" } : Jvm.MethodName)) ∈ lw_all := lw_g (lw_at lw_m3 94 rfl) rfl
theorem q674 : (Jvm.Cond.instanceMethod ({ cls := "java/lang/Throwable", name := "fillInStackTrace", desc := "()Ljava/lang/Throwable;" } : Jvm.MethodName)) ∈ lw_all := lw_g (lw_at lw_m3 95 rfl) rfl
theorem q675 : (Jvm.Cond.sameMethod "java/lang/Throwable" "java/lang/Throwable" "fillInStackTrace" "()Ljava/lang/Throwable;") ∈ lw_all := lw_g (lw_at lw_m3 96 rfl) rfl
theorem q678 : (Jvm.Cond.codeSync ({ cls := "java/lang/Throwable", name := "fillInStackTrace", desc := "()Ljava/lang/Throwable;" } : Jvm.MethodName) prog_34_method_18_code (1 : Nat) (Option.some (Jvm.ClassFile.FieldType.object "java/lang/Throwable"))) ∈ lw_all := lw_g (lw_at lw_m3 99 rfl) rfl
theorem q679 : (Jvm.Cond.methodLink "java/lang/Throwable" (202 : Nat) ({ cls := "java/lang/Throwable", name := "fillInStackTrace", desc := "(I)Ljava/lang/Throwable;" } : Jvm.MethodName)) ∈ lw_all := lw_g (lw_at lw_m3 100 rfl) rfl
theorem q680 : (Jvm.Cond.privateMethod ({ cls := "java/lang/Throwable", name := "fillInStackTrace", desc := "(I)Ljava/lang/Throwable;" } : Jvm.MethodName)) ∈ lw_tbl := lw_at lw_m3 101 rfl
theorem q681 : (Jvm.Cond.instanceMethod ({ cls := "java/lang/Throwable", name := "fillInStackTrace", desc := "(I)Ljava/lang/Throwable;" } : Jvm.MethodName)) ∈ lw_all := lw_g (lw_at lw_m3 102 rfl) rfl
theorem q682 : (Jvm.Cond.instantiable "java/lang/Throwable" (6 : Nat)) ∈ lw_all := lw_g (lw_at lw_m3 103 rfl) rfl
theorem q683 : (Jvm.Cond.native ({ cls := "java/lang/Throwable", name := "fillInStackTrace", desc := "(I)Ljava/lang/Throwable;" } : Jvm.MethodName)) ∈ lw_all := lw_g (lw_at lw_m3 104 rfl) rfl
theorem q694 : (Jvm.Cond.fieldLink "java/lang/Throwable" (198 : Nat) "java/lang/Throwable" "backtrace" "Ljava/lang/Object;") ∈ lw_all := lw_g (lw_at lw_m3 115 rfl) rfl
theorem q695 : (Jvm.Cond.fieldLink "java/lang/Throwable" (31 : Nat) "java/lang/Throwable" "detailMessage" "Ljava/lang/String;") ∈ lw_all := lw_g (lw_at lw_m3 116 rfl) rfl
theorem q696 : (Jvm.Cond.fieldLink "java/lang/Throwable" (7 : Nat) "java/lang/Throwable" "cause" "Ljava/lang/Throwable;") ∈ lw_all := lw_g (lw_at lw_m3 117 rfl) rfl
theorem q697 : (Jvm.Cond.fieldLink "java/lang/Throwable" (17 : Nat) "java/lang/Throwable" "stackTrace" "[Ljava/lang/StackTraceElement;") ∈ lw_all := lw_g (lw_at lw_m3 118 rfl) rfl
theorem q698 : (Jvm.Cond.fieldLink "java/lang/Throwable" (24 : Nat) "java/lang/Throwable" "suppressedExceptions" "Ljava/util/List;") ∈ lw_all := lw_g (lw_at lw_m3 119 rfl) rfl
theorem q699 : (Jvm.Cond.soleField "java/lang/Throwable" "backtrace") ∈ lw_all := lw_g (lw_at lw_m3 120 rfl) rfl
theorem q700 : (Jvm.Cond.soleField "java/lang/Throwable" "detailMessage") ∈ lw_all := lw_g (lw_at lw_m3 121 rfl) rfl
theorem q701 : (Jvm.Cond.soleField "java/lang/Throwable" "cause") ∈ lw_all := lw_g (lw_at lw_m3 122 rfl) rfl
theorem q702 : (Jvm.Cond.soleField "java/lang/Throwable" "stackTrace") ∈ lw_all := lw_g (lw_at lw_m3 123 rfl) rfl
theorem q704 : (Jvm.Cond.soleField "java/lang/Throwable" "depth") ∈ lw_all := lw_g (lw_at lw_m3 125 rfl) rfl
theorem q705 : (Jvm.Cond.soleField "java/lang/Throwable" "suppressedExceptions") ∈ lw_all := lw_g (lw_at lw_m3 126 rfl) rfl
theorem q850 : (Jvm.Cond.instanceMethod ({ cls := "java/lang/Throwable", name := "<init>", desc := "(Ljava/lang/String;Ljava/lang/Throwable;ZZ)V" } : Jvm.MethodName)) ∈ lw_all := lw_g (lw_at lw_m4 31 rfl) rfl
theorem q851 : (Jvm.Cond.code ({ cls := "java/lang/Throwable", name := "<init>", desc := "(Ljava/lang/String;Ljava/lang/Throwable;ZZ)V" } : Jvm.MethodName) prog_34_method_5_code (5 : Nat) (Option.none : Option Jvm.ClassFile.FieldType)) ∈ lw_all := lw_g (lw_at lw_m4 32 rfl) rfl
theorem q1923 : (Jvm.Cond.sameMethod "java/lang/Throwable" "java/lang/Throwable" "fillInStackTrace" "(I)Ljava/lang/Throwable;") ∈ lw_all := lw_g (lw_at lw_m8 144 rfl) rfl
theorem q1944 : (Jvm.Cond.castable "java/lang/Throwable" "java/lang/Object") ∈ lw_tbl := lw_at lw_m8 165 rfl
theorem in_J3 : ∀ w ∈ wsJ30, w ∈ lw_all := lw_in wsJ30 [655, 657, 659, 661, 663] (by decide +kernel) (by decide +kernel)
/-! java/lang/Exception -/
set_option maxRecDepth 100000
def RJ4 : String := "java/lang/Exception"
abbrev cJ4_init : ByteArray := prog_24_method_1_code
def yJ4_init : MethodName := ⟨RJ4, "<init>", "()V"⟩
theorem dJ4_init_0 : decode cJ4_init 0 = .ok (.aload_n 0, 1) := by decide +kernel
theorem dJ4_init_1 : decode cJ4_init 1 = .ok (.invokespecial 1, 3) := by decide +kernel
theorem dJ4_init_4 : decode cJ4_init 4 = .ok (.return_, 1) := by decide +kernel
abbrev cJ4_init_2 : ByteArray := prog_24_method_5_code
def yJ4_init_2 : MethodName := ⟨RJ4, "<init>", "(Ljava/lang/String;Ljava/lang/Throwable;ZZ)V"⟩
def dkwJ4_init_2_0 : List UInt8 := [42, 43, 44, 29, 21, 4, 183, 0, 16, 177]
abbrev dktJ4_init_2_0 : List UInt8 := dkwJ4_init_2_0 ++ []
theorem dksJ4_init_2_0 : cJ4_init_2.data.toList.drop 0 = dktJ4_init_2_0 := by decide +kernel
theorem dJ4_init_2_0 : decode cJ4_init_2 0 = .ok (.aload_n 0, 1) := dk_42 (dk_at dksJ4_init_2_0 0 rfl rfl)
theorem dJ4_init_2_1 : decode cJ4_init_2 1 = .ok (.aload_n 1, 1) := dk_43 (dk_at dksJ4_init_2_0 1 rfl rfl)
theorem dJ4_init_2_2 : decode cJ4_init_2 2 = .ok (.aload_n 2, 1) := dk_44 (dk_at dksJ4_init_2_0 2 rfl rfl)
theorem dJ4_init_2_3 : decode cJ4_init_2 3 = .ok (.iload_n 3, 1) := dk_29 (dk_at dksJ4_init_2_0 3 rfl rfl)
theorem dJ4_init_2_4 : decode cJ4_init_2 4 = .ok (.iload 4, 2) := dk_21 4 (dk_at dksJ4_init_2_0 4 rfl rfl)
theorem dJ4_init_2_6 : decode cJ4_init_2 6 = .ok (.invokespecial 16, 3) := dk_183 0 16 (dk_at dksJ4_init_2_0 6 rfl rfl)
theorem dJ4_init_2_9 : decode cJ4_init_2 9 = .ok (.return_, 1) := dk_177 (dk_at dksJ4_init_2_0 9 rfl rfl)
theorem q115 : (Jvm.Cond.initialized "java/lang/Exception") ∈ lw_all := lw_g (lw_at lw_m1 16 rfl) rfl
theorem q648 : (Jvm.Cond.declares ({ cls := "java/lang/Exception", name := "<init>", desc := "()V" } : Jvm.MethodName)) ∈ lw_tbl := lw_at lw_m3 69 rfl
theorem q649 : (Jvm.Cond.declares ({ cls := "java/lang/Exception", name := "<init>", desc := "(Ljava/lang/String;)V" } : Jvm.MethodName)) ∈ lw_tbl := lw_at lw_m3 70 rfl
theorem q691 : (Jvm.Cond.instanceMethod ({ cls := "java/lang/Exception", name := "<init>", desc := "()V" } : Jvm.MethodName)) ∈ lw_all := lw_g (lw_at lw_m3 112 rfl) rfl
theorem q692 : (Jvm.Cond.code ({ cls := "java/lang/Exception", name := "<init>", desc := "()V" } : Jvm.MethodName) prog_24_method_1_code (1 : Nat) (Option.none : Option Jvm.ClassFile.FieldType)) ∈ lw_all := lw_g (lw_at lw_m3 113 rfl) rfl
theorem q693 : (Jvm.Cond.methodLink "java/lang/Exception" (1 : Nat) ({ cls := "java/lang/Throwable", name := "<init>", desc := "()V" } : Jvm.MethodName)) ∈ lw_all := lw_g (lw_at lw_m3 114 rfl) rfl
theorem q847 : (Jvm.Cond.instanceMethod ({ cls := "java/lang/Exception", name := "<init>", desc := "(Ljava/lang/String;Ljava/lang/Throwable;ZZ)V" } : Jvm.MethodName)) ∈ lw_all := lw_g (lw_at lw_m4 28 rfl) rfl
theorem q848 : (Jvm.Cond.code ({ cls := "java/lang/Exception", name := "<init>", desc := "(Ljava/lang/String;Ljava/lang/Throwable;ZZ)V" } : Jvm.MethodName) prog_24_method_5_code (5 : Nat) (Option.none : Option Jvm.ClassFile.FieldType)) ∈ lw_all := lw_g (lw_at lw_m4 29 rfl) rfl
theorem q849 : (Jvm.Cond.methodLink "java/lang/Exception" (16 : Nat) ({ cls := "java/lang/Throwable", name := "<init>", desc := "(Ljava/lang/String;Ljava/lang/Throwable;ZZ)V" } : Jvm.MethodName)) ∈ lw_all := lw_g (lw_at lw_m4 30 rfl) rfl
/-! java/lang/RuntimeException -/
set_option maxRecDepth 100000
def RJ5 : String := "java/lang/RuntimeException"
abbrev cJ5_init : ByteArray := prog_29_method_1_code
def yJ5_init : MethodName := ⟨RJ5, "<init>", "()V"⟩
theorem dJ5_init_0 : decode cJ5_init 0 = .ok (.aload_n 0, 1) := by decide +kernel
theorem dJ5_init_1 : decode cJ5_init 1 = .ok (.invokespecial 1, 3) := by decide +kernel
theorem dJ5_init_4 : decode cJ5_init 4 = .ok (.return_, 1) := by decide +kernel
theorem q116 : (Jvm.Cond.initialized "java/lang/RuntimeException") ∈ lw_all := lw_g (lw_at lw_m1 17 rfl) rfl
theorem q646 : (Jvm.Cond.declares ({ cls := "java/lang/RuntimeException", name := "<init>", desc := "()V" } : Jvm.MethodName)) ∈ lw_tbl := lw_at lw_m3 67 rfl
theorem q647 : (Jvm.Cond.declares ({ cls := "java/lang/RuntimeException", name := "<init>", desc := "(Ljava/lang/String;)V" } : Jvm.MethodName)) ∈ lw_tbl := lw_at lw_m3 68 rfl
theorem q688 : (Jvm.Cond.instanceMethod ({ cls := "java/lang/RuntimeException", name := "<init>", desc := "()V" } : Jvm.MethodName)) ∈ lw_all := lw_g (lw_at lw_m3 109 rfl) rfl
theorem q689 : (Jvm.Cond.code ({ cls := "java/lang/RuntimeException", name := "<init>", desc := "()V" } : Jvm.MethodName) prog_29_method_1_code (1 : Nat) (Option.none : Option Jvm.ClassFile.FieldType)) ∈ lw_all := lw_g (lw_at lw_m3 110 rfl) rfl
theorem q690 : (Jvm.Cond.methodLink "java/lang/RuntimeException" (1 : Nat) ({ cls := "java/lang/Exception", name := "<init>", desc := "()V" } : Jvm.MethodName)) ∈ lw_all := lw_g (lw_at lw_m3 111 rfl) rfl
/-! java/lang/IllegalArgumentException -/
set_option maxRecDepth 100000
def RJ6 : String := "java/lang/IllegalArgumentException"
def TJ6 : u_T := fun k => match k with
  | 0 => ("java/lang/Throwable", "cause", "Ljava/lang/Throwable;", false)
  | 1 => ("java/lang/Throwable", "stackTrace", "[Ljava/lang/StackTraceElement;", false)
  | 2 => ("java/lang/Throwable", "suppressedExceptions", "Ljava/util/List;", false)
  | 3 => ("java/lang/Throwable", "detailMessage", "Ljava/lang/String;", false)
  | 4 => ("java/lang/Throwable", "backtrace", "Ljava/lang/Object;", false)
  | _ => ("java/lang/Throwable", "depth", "I", false)
def tyJ6 : Nat → FieldType := fun k => match k with
  | 0 => .object "java/lang/Throwable"
  | 1 => .array (.object "java/lang/StackTraceElement")
  | 2 => .object "java/util/List"
  | 3 => .object "java/lang/String"
  | 4 => .object "java/lang/Object"
  | _ => .int
abbrev wsJ60 : List Cond := u_ws RJ6 TJ6 6
theorem nmJ6 : ∀ a, a < 6 → ∀ b, b < 6 → a ≠ b → (TJ6 a).2.1 ≠ (TJ6 b).2.1 := by decide +kernel
theorem tyJ6_ok : ∀ k, k < 6 → parseFieldDescriptor (TJ6 k).2.2.1 = some (tyJ6 k) := by decide +kernel
abbrev cJ6_init : ByteArray := prog_25_method_1_code
def yJ6_init : MethodName := ⟨RJ6, "<init>", "()V"⟩
theorem dJ6_init_0 : decode cJ6_init 0 = .ok (.aload_n 0, 1) := by decide +kernel
theorem dJ6_init_1 : decode cJ6_init 1 = .ok (.invokespecial 1, 3) := by decide +kernel
theorem dJ6_init_4 : decode cJ6_init 4 = .ok (.return_, 1) := by decide +kernel
theorem q117 : (Jvm.Cond.initialized "java/lang/IllegalArgumentException") ∈ lw_all := lw_g (lw_at lw_m1 18 rfl) rfl
theorem q602 : (Jvm.Cond.selects "java/lang/IllegalArgumentException" ({ cls := "java/lang/Object", name := "getClass", desc := "()Ljava/lang/Class;" } : Jvm.MethodName) ({ cls := "java/lang/Object", name := "getClass", desc := "()Ljava/lang/Class;" } : Jvm.MethodName)) ∈ lw_all := lw_g (lw_at lw_m3 23 rfl) rfl
theorem q644 : (Jvm.Cond.instantiable "java/lang/IllegalArgumentException" (6 : Nat)) ∈ lw_all := lw_g (lw_at lw_m3 65 rfl) rfl
theorem q645 : (Jvm.Cond.castable "java/lang/IllegalArgumentException" "java/lang/IllegalArgumentException") ∈ lw_tbl := lw_at lw_m3 66 rfl
theorem q652 : (Jvm.Cond.selects "java/lang/IllegalArgumentException" ({ cls := "java/lang/Throwable", name := "fillInStackTrace", desc := "(I)Ljava/lang/Throwable;" } : Jvm.MethodName) ({ cls := "java/lang/Throwable", name := "fillInStackTrace", desc := "(I)Ljava/lang/Throwable;" } : Jvm.MethodName)) ∈ lw_all := lw_g (lw_at lw_m3 73 rfl) rfl
theorem q653 : (Jvm.Cond.selects "java/lang/IllegalArgumentException" ({ cls := "java/lang/Throwable", name := "fillInStackTrace", desc := "()Ljava/lang/Throwable;" } : Jvm.MethodName) ({ cls := "java/lang/Throwable", name := "fillInStackTrace", desc := "()Ljava/lang/Throwable;" } : Jvm.MethodName)) ∈ lw_all := lw_g (lw_at lw_m3 74 rfl) rfl
theorem q654 : (Jvm.Cond.lays "java/lang/IllegalArgumentException" "java/lang/Throwable" "cause" "Ljava/lang/Throwable;") ∈ lw_all := lw_g (lw_at lw_m3 75 rfl) rfl
theorem q656 : (Jvm.Cond.lays "java/lang/IllegalArgumentException" "java/lang/Throwable" "stackTrace" "[Ljava/lang/StackTraceElement;") ∈ lw_all := lw_g (lw_at lw_m3 77 rfl) rfl
theorem q658 : (Jvm.Cond.lays "java/lang/IllegalArgumentException" "java/lang/Throwable" "suppressedExceptions" "Ljava/util/List;") ∈ lw_all := lw_g (lw_at lw_m3 79 rfl) rfl
theorem q660 : (Jvm.Cond.lays "java/lang/IllegalArgumentException" "java/lang/Throwable" "detailMessage" "Ljava/lang/String;") ∈ lw_all := lw_g (lw_at lw_m3 81 rfl) rfl
theorem q662 : (Jvm.Cond.lays "java/lang/IllegalArgumentException" "java/lang/Throwable" "backtrace" "Ljava/lang/Object;") ∈ lw_all := lw_g (lw_at lw_m3 83 rfl) rfl
theorem q685 : (Jvm.Cond.instanceMethod ({ cls := "java/lang/IllegalArgumentException", name := "<init>", desc := "()V" } : Jvm.MethodName)) ∈ lw_all := lw_g (lw_at lw_m3 106 rfl) rfl
theorem q686 : (Jvm.Cond.code ({ cls := "java/lang/IllegalArgumentException", name := "<init>", desc := "()V" } : Jvm.MethodName) prog_25_method_1_code (1 : Nat) (Option.none : Option Jvm.ClassFile.FieldType)) ∈ lw_all := lw_g (lw_at lw_m3 107 rfl) rfl
theorem q687 : (Jvm.Cond.methodLink "java/lang/IllegalArgumentException" (1 : Nat) ({ cls := "java/lang/RuntimeException", name := "<init>", desc := "()V" } : Jvm.MethodName)) ∈ lw_all := lw_g (lw_at lw_m3 108 rfl) rfl
theorem q703 : (Jvm.Cond.lays "java/lang/IllegalArgumentException" "java/lang/Throwable" "depth" "I") ∈ lw_all := lw_g (lw_at lw_m3 124 rfl) rfl
theorem q706 : (Jvm.Cond.superclass "java/lang/IllegalArgumentException" "java/lang/RuntimeException") ∈ lw_all := lw_g (lw_at lw_m3 127 rfl) rfl
theorem q1936 : (Jvm.Cond.castable "java/lang/IllegalArgumentException" "java/lang/Object") ∈ lw_tbl := lw_at lw_m8 157 rfl
theorem in_J6 : ∀ w ∈ wsJ60, w ∈ lw_all := lw_in wsJ60 [654, 656, 658, 660, 662, 703] (by decide +kernel) (by decide +kernel)
/-! java/lang/Math -/
set_option maxRecDepth 100000
def RJ7 : String := "java/lang/Math"
abbrev cJ7_max : ByteArray := prog_28_method_65_code
def yJ7_max : MethodName := ⟨RJ7, "max", "(II)I"⟩
def dkwJ7_max_0 : List UInt8 := [26, 27, 161, 0, 7, 26, 167, 0, 4, 27, 172]
abbrev dktJ7_max_0 : List UInt8 := dkwJ7_max_0 ++ []
theorem dksJ7_max_0 : cJ7_max.data.toList.drop 0 = dktJ7_max_0 := by decide +kernel
theorem dJ7_max_0 : decode cJ7_max 0 = .ok (.iload_n 0, 1) := dk_26 (dk_at dksJ7_max_0 0 rfl rfl)
theorem dJ7_max_1 : decode cJ7_max 1 = .ok (.iload_n 1, 1) := dk_27 (dk_at dksJ7_max_0 1 rfl rfl)
theorem dJ7_max_2 : decode cJ7_max 2 = .ok (.if_icmp .lt 7, 3) := dk_161 0 7 (dk_at dksJ7_max_0 2 rfl rfl)
theorem dJ7_max_5 : decode cJ7_max 5 = .ok (.iload_n 0, 1) := dk_26 (dk_at dksJ7_max_0 5 rfl rfl)
theorem dJ7_max_6 : decode cJ7_max 6 = .ok (.goto 4, 3) := dk_167 0 4 (dk_at dksJ7_max_0 6 rfl rfl)
theorem dJ7_max_9 : decode cJ7_max 9 = .ok (.iload_n 1, 1) := dk_27 (dk_at dksJ7_max_0 9 rfl rfl)
theorem dJ7_max_10 : decode cJ7_max 10 = .ok (.ireturn, 1) := dk_172 (dk_at dksJ7_max_0 10 rfl rfl)
abbrev cJ7_min : ByteArray := prog_28_method_69_code
def yJ7_min : MethodName := ⟨RJ7, "min", "(II)I"⟩
def dkwJ7_min_0 : List UInt8 := [26, 27, 163, 0, 7, 26, 167, 0, 4, 27, 172]
abbrev dktJ7_min_0 : List UInt8 := dkwJ7_min_0 ++ []
theorem dksJ7_min_0 : cJ7_min.data.toList.drop 0 = dktJ7_min_0 := by decide +kernel
theorem dJ7_min_0 : decode cJ7_min 0 = .ok (.iload_n 0, 1) := dk_26 (dk_at dksJ7_min_0 0 rfl rfl)
theorem dJ7_min_1 : decode cJ7_min 1 = .ok (.iload_n 1, 1) := dk_27 (dk_at dksJ7_min_0 1 rfl rfl)
theorem dJ7_min_2 : decode cJ7_min 2 = .ok (.if_icmp .gt 7, 3) := dk_163 0 7 (dk_at dksJ7_min_0 2 rfl rfl)
theorem dJ7_min_5 : decode cJ7_min 5 = .ok (.iload_n 0, 1) := dk_26 (dk_at dksJ7_min_0 5 rfl rfl)
theorem dJ7_min_6 : decode cJ7_min 6 = .ok (.goto 4, 3) := dk_167 0 4 (dk_at dksJ7_min_0 6 rfl rfl)
theorem dJ7_min_9 : decode cJ7_min 9 = .ok (.iload_n 1, 1) := dk_27 (dk_at dksJ7_min_0 9 rfl rfl)
theorem dJ7_min_10 : decode cJ7_min 10 = .ok (.ireturn, 1) := dk_172 (dk_at dksJ7_min_0 10 rfl rfl)
theorem q119 : (Jvm.Cond.initialized "java/lang/Math") ∈ lw_all := lw_g (lw_at lw_m1 20 rfl) rfl
theorem q554 : (Jvm.Cond.static ({ cls := "java/lang/Math", name := "max", desc := "(II)I" } : Jvm.MethodName)) ∈ lw_all := lw_g (lw_at lw_m2 215 rfl) rfl
theorem q555 : (Jvm.Cond.code ({ cls := "java/lang/Math", name := "max", desc := "(II)I" } : Jvm.MethodName) prog_28_method_65_code (2 : Nat) (Option.some Jvm.ClassFile.FieldType.int)) ∈ lw_all := lw_g (lw_at lw_m2 216 rfl) rfl
theorem q613 : (Jvm.Cond.static ({ cls := "java/lang/Math", name := "min", desc := "(II)I" } : Jvm.MethodName)) ∈ lw_all := lw_g (lw_at lw_m3 34 rfl) rfl
theorem q614 : (Jvm.Cond.code ({ cls := "java/lang/Math", name := "min", desc := "(II)I" } : Jvm.MethodName) prog_28_method_69_code (2 : Nat) (Option.some Jvm.ClassFile.FieldType.int)) ∈ lw_all := lw_g (lw_at lw_m3 35 rfl) rfl
/-! java/lang/String -/
set_option maxRecDepth 100000
def RJ8 : String := "java/lang/String"
abbrev cJ8_length : ByteArray := prog_30_method_54_code
def yJ8_length : MethodName := ⟨RJ8, "length", "()I"⟩
def dkwJ8_length_0 : List UInt8 := [42, 180, 0, 9, 190, 42, 182, 1, 79, 122, 172]
abbrev dktJ8_length_0 : List UInt8 := dkwJ8_length_0 ++ []
theorem dksJ8_length_0 : cJ8_length.data.toList.drop 0 = dktJ8_length_0 := by decide +kernel
theorem dJ8_length_0 : decode cJ8_length 0 = .ok (.aload_n 0, 1) := dk_42 (dk_at dksJ8_length_0 0 rfl rfl)
theorem dJ8_length_1 : decode cJ8_length 1 = .ok (.getfield 9, 3) := dk_180 0 9 (dk_at dksJ8_length_0 1 rfl rfl)
theorem dJ8_length_4 : decode cJ8_length 4 = .ok (.arraylength, 1) := dk_190 (dk_at dksJ8_length_0 4 rfl rfl)
theorem dJ8_length_5 : decode cJ8_length 5 = .ok (.aload_n 0, 1) := dk_42 (dk_at dksJ8_length_0 5 rfl rfl)
theorem dJ8_length_6 : decode cJ8_length 6 = .ok (.invokevirtual 335, 3) := dk_182 1 79 (dk_at dksJ8_length_0 6 rfl rfl)
theorem dJ8_length_9 : decode cJ8_length 9 = .ok (.ishr, 1) := dk_122 (dk_at dksJ8_length_0 9 rfl rfl)
theorem dJ8_length_10 : decode cJ8_length 10 = .ok (.ireturn, 1) := dk_172 (dk_at dksJ8_length_0 10 rfl rfl)
abbrev cJ8_coder : ByteArray := prog_30_method_152_code
def yJ8_coder : MethodName := ⟨RJ8, "coder", "()B"⟩
def dkwJ8_coder_0 : List UInt8 := [178, 0, 38, 153, 0, 10, 42, 180, 0, 15, 167, 0, 4, 4, 172]
abbrev dktJ8_coder_0 : List UInt8 := dkwJ8_coder_0 ++ []
theorem dksJ8_coder_0 : cJ8_coder.data.toList.drop 0 = dktJ8_coder_0 := by decide +kernel
theorem dJ8_coder_0 : decode cJ8_coder 0 = .ok (.getstatic 38, 3) := dk_178 0 38 (dk_at dksJ8_coder_0 0 rfl rfl)
theorem dJ8_coder_3 : decode cJ8_coder 3 = .ok (.ifCond .eq 10, 3) := dk_153 0 10 (dk_at dksJ8_coder_0 3 rfl rfl)
theorem dJ8_coder_6 : decode cJ8_coder 6 = .ok (.aload_n 0, 1) := dk_42 (dk_at dksJ8_coder_0 6 rfl rfl)
theorem dJ8_coder_7 : decode cJ8_coder 7 = .ok (.getfield 15, 3) := dk_180 0 15 (dk_at dksJ8_coder_0 7 rfl rfl)
theorem dJ8_coder_10 : decode cJ8_coder 10 = .ok (.goto 4, 3) := dk_167 0 4 (dk_at dksJ8_coder_0 10 rfl rfl)
theorem dJ8_coder_13 : decode cJ8_coder 13 = .ok (.iconst 1, 1) := dk_4 (dk_at dksJ8_coder_0 13 rfl rfl)
theorem dJ8_coder_14 : decode cJ8_coder 14 = .ok (.ireturn, 1) := dk_172 (dk_at dksJ8_coder_0 14 rfl rfl)
abbrev cJ8_charAt : ByteArray := prog_30_method_56_code
def yJ8_charAt : MethodName := ⟨RJ8, "charAt", "(I)C"⟩
def dkwJ8_charAt_1 : List UInt8 := [172]
abbrev dktJ8_charAt_1 : List UInt8 := dkwJ8_charAt_1 ++ []
def dkwJ8_charAt_0 : List UInt8 := [42, 182, 1, 236, 153, 0, 12, 42, 180, 0, 9, 27, 184, 1, 239, 172, 42, 180, 0, 9, 27, 184, 1, 242]
abbrev dktJ8_charAt_0 : List UInt8 := dkwJ8_charAt_0 ++ dktJ8_charAt_1
theorem dksJ8_charAt_0 : cJ8_charAt.data.toList.drop 0 = dktJ8_charAt_0 := by decide +kernel
theorem dksJ8_charAt_1 : cJ8_charAt.data.toList.drop 24 = dktJ8_charAt_1 := dk_seg dksJ8_charAt_0 24 rfl rfl
theorem dJ8_charAt_0 : decode cJ8_charAt 0 = .ok (.aload_n 0, 1) := dk_42 (dk_at dksJ8_charAt_0 0 rfl rfl)
theorem dJ8_charAt_1 : decode cJ8_charAt 1 = .ok (.invokevirtual 492, 3) := dk_182 1 236 (dk_at dksJ8_charAt_0 1 rfl rfl)
theorem dJ8_charAt_4 : decode cJ8_charAt 4 = .ok (.ifCond .eq 12, 3) := dk_153 0 12 (dk_at dksJ8_charAt_0 4 rfl rfl)
theorem dJ8_charAt_7 : decode cJ8_charAt 7 = .ok (.aload_n 0, 1) := dk_42 (dk_at dksJ8_charAt_0 7 rfl rfl)
theorem dJ8_charAt_8 : decode cJ8_charAt 8 = .ok (.getfield 9, 3) := dk_180 0 9 (dk_at dksJ8_charAt_0 8 rfl rfl)
theorem dJ8_charAt_11 : decode cJ8_charAt 11 = .ok (.iload_n 1, 1) := dk_27 (dk_at dksJ8_charAt_0 11 rfl rfl)
theorem dJ8_charAt_12 : decode cJ8_charAt 12 = .ok (.invokestatic 495, 3) := dk_184 1 239 (dk_at dksJ8_charAt_0 12 rfl rfl)
theorem dJ8_charAt_15 : decode cJ8_charAt 15 = .ok (.ireturn, 1) := dk_172 (dk_at dksJ8_charAt_0 15 rfl rfl)
theorem dJ8_charAt_16 : decode cJ8_charAt 16 = .ok (.aload_n 0, 1) := dk_42 (dk_at dksJ8_charAt_0 16 rfl rfl)
theorem dJ8_charAt_17 : decode cJ8_charAt 17 = .ok (.getfield 9, 3) := dk_180 0 9 (dk_at dksJ8_charAt_0 17 rfl rfl)
theorem dJ8_charAt_20 : decode cJ8_charAt 20 = .ok (.iload_n 1, 1) := dk_27 (dk_at dksJ8_charAt_0 20 rfl rfl)
theorem dJ8_charAt_21 : decode cJ8_charAt 21 = .ok (.invokestatic 498, 3) := dk_184 1 242 (dk_at dksJ8_charAt_0 21 rfl rfl)
theorem dJ8_charAt_24 : decode cJ8_charAt 24 = .ok (.ireturn, 1) := dk_172 (dk_at dksJ8_charAt_1 0 rfl rfl)
abbrev cJ8_isLatin1 : ByteArray := prog_30_method_154_code
def yJ8_isLatin1 : MethodName := ⟨RJ8, "isLatin1", "()Z"⟩
def dkwJ8_isLatin1_0 : List UInt8 := [178, 0, 38, 153, 0, 14, 42, 180, 0, 15, 154, 0, 7, 4, 167, 0, 4, 3, 172]
abbrev dktJ8_isLatin1_0 : List UInt8 := dkwJ8_isLatin1_0 ++ []
theorem dksJ8_isLatin1_0 : cJ8_isLatin1.data.toList.drop 0 = dktJ8_isLatin1_0 := by decide +kernel
theorem dJ8_isLatin1_0 : decode cJ8_isLatin1 0 = .ok (.getstatic 38, 3) := dk_178 0 38 (dk_at dksJ8_isLatin1_0 0 rfl rfl)
theorem dJ8_isLatin1_3 : decode cJ8_isLatin1 3 = .ok (.ifCond .eq 14, 3) := dk_153 0 14 (dk_at dksJ8_isLatin1_0 3 rfl rfl)
theorem dJ8_isLatin1_6 : decode cJ8_isLatin1 6 = .ok (.aload_n 0, 1) := dk_42 (dk_at dksJ8_isLatin1_0 6 rfl rfl)
theorem dJ8_isLatin1_7 : decode cJ8_isLatin1 7 = .ok (.getfield 15, 3) := dk_180 0 15 (dk_at dksJ8_isLatin1_0 7 rfl rfl)
theorem dJ8_isLatin1_10 : decode cJ8_isLatin1 10 = .ok (.ifCond .ne 7, 3) := dk_154 0 7 (dk_at dksJ8_isLatin1_0 10 rfl rfl)
theorem dJ8_isLatin1_13 : decode cJ8_isLatin1 13 = .ok (.iconst 1, 1) := dk_4 (dk_at dksJ8_isLatin1_0 13 rfl rfl)
theorem dJ8_isLatin1_14 : decode cJ8_isLatin1 14 = .ok (.goto 4, 3) := dk_167 0 4 (dk_at dksJ8_isLatin1_0 14 rfl rfl)
theorem dJ8_isLatin1_17 : decode cJ8_isLatin1 17 = .ok (.iconst 0, 1) := dk_3 (dk_at dksJ8_isLatin1_0 17 rfl rfl)
theorem dJ8_isLatin1_18 : decode cJ8_isLatin1 18 = .ok (.ireturn, 1) := dk_172 (dk_at dksJ8_isLatin1_0 18 rfl rfl)
abbrev cJ8_checkIndex : ByteArray := prog_30_method_155_code
def yJ8_checkIndex : MethodName := ⟨RJ8, "checkIndex", "(II)V"⟩
def dkwJ8_checkIndex_0 : List UInt8 := [26, 27, 178, 4, 29, 184, 4, 35, 87, 177]
abbrev dktJ8_checkIndex_0 : List UInt8 := dkwJ8_checkIndex_0 ++ []
theorem dksJ8_checkIndex_0 : cJ8_checkIndex.data.toList.drop 0 = dktJ8_checkIndex_0 := by decide +kernel
theorem dJ8_checkIndex_0 : decode cJ8_checkIndex 0 = .ok (.iload_n 0, 1) := dk_26 (dk_at dksJ8_checkIndex_0 0 rfl rfl)
theorem dJ8_checkIndex_1 : decode cJ8_checkIndex 1 = .ok (.iload_n 1, 1) := dk_27 (dk_at dksJ8_checkIndex_0 1 rfl rfl)
theorem dJ8_checkIndex_2 : decode cJ8_checkIndex 2 = .ok (.getstatic 1053, 3) := dk_178 4 29 (dk_at dksJ8_checkIndex_0 2 rfl rfl)
theorem dJ8_checkIndex_5 : decode cJ8_checkIndex 5 = .ok (.invokestatic 1059, 3) := dk_184 4 35 (dk_at dksJ8_checkIndex_0 5 rfl rfl)
theorem dJ8_checkIndex_8 : decode cJ8_checkIndex 8 = .ok (.pop, 1) := dk_87 (dk_at dksJ8_checkIndex_0 8 rfl rfl)
theorem dJ8_checkIndex_9 : decode cJ8_checkIndex 9 = .ok (.return_, 1) := dk_177 (dk_at dksJ8_checkIndex_0 9 rfl rfl)
theorem q120 : (Jvm.Cond.initialized "java/lang/String") ∈ lw_all := lw_g (lw_at lw_m1 21 rfl) rfl
theorem q781 : (Jvm.Cond.instanceMethod ({ cls := "java/lang/String", name := "length", desc := "()I" } : Jvm.MethodName)) ∈ lw_all := lw_g (lw_at lw_m3 202 rfl) rfl
theorem q782 : (Jvm.Cond.selects "java/lang/String" ({ cls := "java/lang/String", name := "length", desc := "()I" } : Jvm.MethodName) ({ cls := "java/lang/String", name := "length", desc := "()I" } : Jvm.MethodName)) ∈ lw_all := lw_g (lw_at lw_m3 203 rfl) rfl
theorem q783 : (Jvm.Cond.code ({ cls := "java/lang/String", name := "length", desc := "()I" } : Jvm.MethodName) prog_30_method_54_code (1 : Nat) (Option.some Jvm.ClassFile.FieldType.int)) ∈ lw_all := lw_g (lw_at lw_m3 204 rfl) rfl
theorem q784 : (Jvm.Cond.methodLink "java/lang/String" (335 : Nat) ({ cls := "java/lang/String", name := "coder", desc := "()B" } : Jvm.MethodName)) ∈ lw_all := lw_g (lw_at lw_m3 205 rfl) rfl
theorem q785 : (Jvm.Cond.instanceMethod ({ cls := "java/lang/String", name := "coder", desc := "()B" } : Jvm.MethodName)) ∈ lw_all := lw_g (lw_at lw_m3 206 rfl) rfl
theorem q786 : (Jvm.Cond.selects "java/lang/String" ({ cls := "java/lang/String", name := "coder", desc := "()B" } : Jvm.MethodName) ({ cls := "java/lang/String", name := "coder", desc := "()B" } : Jvm.MethodName)) ∈ lw_all := lw_g (lw_at lw_m3 207 rfl) rfl
theorem q787 : (Jvm.Cond.code ({ cls := "java/lang/String", name := "coder", desc := "()B" } : Jvm.MethodName) prog_30_method_152_code (1 : Nat) (Option.some Jvm.ClassFile.FieldType.byte)) ∈ lw_all := lw_g (lw_at lw_m3 208 rfl) rfl
theorem q788 : (Jvm.Cond.fieldLink "java/lang/String" (38 : Nat) "java/lang/String" "COMPACT_STRINGS" "Z") ∈ lw_all := lw_g (lw_at lw_m3 209 rfl) rfl
theorem q789 : (Jvm.Cond.laysStatic "java/lang/String" "COMPACT_STRINGS" "Z") ∈ lw_tbl := lw_at lw_m3 210 rfl
theorem q791 : (Jvm.Cond.instanceMethod ({ cls := "java/lang/String", name := "charAt", desc := "(I)C" } : Jvm.MethodName)) ∈ lw_all := lw_g (lw_at lw_m3 212 rfl) rfl
theorem q792 : (Jvm.Cond.selects "java/lang/String" ({ cls := "java/lang/String", name := "charAt", desc := "(I)C" } : Jvm.MethodName) ({ cls := "java/lang/String", name := "charAt", desc := "(I)C" } : Jvm.MethodName)) ∈ lw_all := lw_g (lw_at lw_m3 213 rfl) rfl
theorem q793 : (Jvm.Cond.code ({ cls := "java/lang/String", name := "charAt", desc := "(I)C" } : Jvm.MethodName) prog_30_method_56_code (2 : Nat) (Option.some Jvm.ClassFile.FieldType.char)) ∈ lw_all := lw_g (lw_at lw_m3 214 rfl) rfl
theorem q794 : (Jvm.Cond.methodLink "java/lang/String" (492 : Nat) ({ cls := "java/lang/String", name := "isLatin1", desc := "()Z" } : Jvm.MethodName)) ∈ lw_all := lw_g (lw_at lw_m3 215 rfl) rfl
theorem q795 : (Jvm.Cond.instanceMethod ({ cls := "java/lang/String", name := "isLatin1", desc := "()Z" } : Jvm.MethodName)) ∈ lw_all := lw_g (lw_at lw_m3 216 rfl) rfl
theorem q796 : (Jvm.Cond.selects "java/lang/String" ({ cls := "java/lang/String", name := "isLatin1", desc := "()Z" } : Jvm.MethodName) ({ cls := "java/lang/String", name := "isLatin1", desc := "()Z" } : Jvm.MethodName)) ∈ lw_all := lw_g (lw_at lw_m3 217 rfl) rfl
theorem q797 : (Jvm.Cond.code ({ cls := "java/lang/String", name := "isLatin1", desc := "()Z" } : Jvm.MethodName) prog_30_method_154_code (1 : Nat) (Option.some Jvm.ClassFile.FieldType.boolean)) ∈ lw_all := lw_g (lw_at lw_m3 218 rfl) rfl
theorem q798 : (Jvm.Cond.methodLink "java/lang/String" (495 : Nat) ({ cls := "java/lang/StringLatin1", name := "charAt", desc := "([BI)C" } : Jvm.MethodName)) ∈ lw_all := lw_g (lw_at lw_m3 219 rfl) rfl
theorem q802 : (Jvm.Cond.static ({ cls := "java/lang/String", name := "checkIndex", desc := "(II)V" } : Jvm.MethodName)) ∈ lw_all := lw_g (lw_at lw_m3 223 rfl) rfl
theorem q803 : (Jvm.Cond.code ({ cls := "java/lang/String", name := "checkIndex", desc := "(II)V" } : Jvm.MethodName) prog_30_method_155_code (2 : Nat) (Option.none : Option Jvm.ClassFile.FieldType)) ∈ lw_all := lw_g (lw_at lw_m3 224 rfl) rfl
theorem q804 : (Jvm.Cond.fieldLink "java/lang/String" (1053 : Nat) "jdk/internal/util/Preconditions" "SIOOBE_FORMATTER" "Ljava/util/function/BiFunction;") ∈ lw_all := lw_g (lw_at lw_m3 225 rfl) rfl
theorem q806 : (Jvm.Cond.methodLink "java/lang/String" (1059 : Nat) ({ cls := "jdk/internal/util/Preconditions", name := "checkIndex", desc := "(IILjava/util/function/BiFunction;)I" } : Jvm.MethodName)) ∈ lw_all := lw_g (lw_at lw_m3 227 rfl) rfl
theorem q807 : (Jvm.Cond.methodLink "java/lang/String" (498 : Nat) ({ cls := "java/lang/StringUTF16", name := "charAt", desc := "([BI)C" } : Jvm.MethodName)) ∈ lw_all := lw_g (lw_at lw_m3 228 rfl) rfl
theorem q1945 : (Jvm.Cond.castable "java/lang/String" "java/lang/Object") ∈ lw_tbl := lw_at lw_m8 166 rfl
theorem q1960 : (Jvm.Cond.fieldLink "java/lang/String" (9 : Nat) "java/lang/String" "value" "[B") ∈ lw_all := lw_g (lw_at lw_m8 181 rfl) rfl
theorem q1961 : (Jvm.Cond.fieldLink "java/lang/String" (15 : Nat) "java/lang/String" "coder" "B") ∈ lw_all := lw_g (lw_at lw_m8 182 rfl) rfl
/-! java/lang/StringLatin1 -/
set_option maxRecDepth 100000
def RJ9 : String := "java/lang/StringLatin1"
abbrev cJ9_charAt : ByteArray := prog_31_method_2_code
def yJ9_charAt : MethodName := ⟨RJ9, "charAt", "([BI)C"⟩
def dkwJ9_charAt_0 : List UInt8 := [27, 42, 190, 184, 0, 9, 42, 27, 51, 17, 0, 255, 126, 146, 172]
abbrev dktJ9_charAt_0 : List UInt8 := dkwJ9_charAt_0 ++ []
theorem dksJ9_charAt_0 : cJ9_charAt.data.toList.drop 0 = dktJ9_charAt_0 := by decide +kernel
theorem dJ9_charAt_0 : decode cJ9_charAt 0 = .ok (.iload_n 1, 1) := dk_27 (dk_at dksJ9_charAt_0 0 rfl rfl)
theorem dJ9_charAt_1 : decode cJ9_charAt 1 = .ok (.aload_n 0, 1) := dk_42 (dk_at dksJ9_charAt_0 1 rfl rfl)
theorem dJ9_charAt_2 : decode cJ9_charAt 2 = .ok (.arraylength, 1) := dk_190 (dk_at dksJ9_charAt_0 2 rfl rfl)
theorem dJ9_charAt_3 : decode cJ9_charAt 3 = .ok (.invokestatic 9, 3) := dk_184 0 9 (dk_at dksJ9_charAt_0 3 rfl rfl)
theorem dJ9_charAt_6 : decode cJ9_charAt 6 = .ok (.aload_n 0, 1) := dk_42 (dk_at dksJ9_charAt_0 6 rfl rfl)
theorem dJ9_charAt_7 : decode cJ9_charAt 7 = .ok (.iload_n 1, 1) := dk_27 (dk_at dksJ9_charAt_0 7 rfl rfl)
theorem dJ9_charAt_8 : decode cJ9_charAt 8 = .ok (.baload, 1) := dk_51 (dk_at dksJ9_charAt_0 8 rfl rfl)
theorem dJ9_charAt_9 : decode cJ9_charAt 9 = .ok (.sipush 255, 3) := dk_17 0 255 (dk_at dksJ9_charAt_0 9 rfl rfl)
theorem dJ9_charAt_12 : decode cJ9_charAt 12 = .ok (.iand, 1) := dk_126 (dk_at dksJ9_charAt_0 12 rfl rfl)
theorem dJ9_charAt_13 : decode cJ9_charAt 13 = .ok (.i2c, 1) := dk_146 (dk_at dksJ9_charAt_0 13 rfl rfl)
theorem dJ9_charAt_14 : decode cJ9_charAt 14 = .ok (.ireturn, 1) := dk_172 (dk_at dksJ9_charAt_0 14 rfl rfl)
theorem q121 : (Jvm.Cond.initialized "java/lang/StringLatin1") ∈ lw_all := lw_g (lw_at lw_m1 22 rfl) rfl
theorem q799 : (Jvm.Cond.static ({ cls := "java/lang/StringLatin1", name := "charAt", desc := "([BI)C" } : Jvm.MethodName)) ∈ lw_all := lw_g (lw_at lw_m3 220 rfl) rfl
theorem q800 : (Jvm.Cond.code ({ cls := "java/lang/StringLatin1", name := "charAt", desc := "([BI)C" } : Jvm.MethodName) prog_31_method_2_code (2 : Nat) (Option.some Jvm.ClassFile.FieldType.char)) ∈ lw_all := lw_g (lw_at lw_m3 221 rfl) rfl
theorem q801 : (Jvm.Cond.methodLink "java/lang/StringLatin1" (9 : Nat) ({ cls := "java/lang/String", name := "checkIndex", desc := "(II)V" } : Jvm.MethodName)) ∈ lw_all := lw_g (lw_at lw_m3 222 rfl) rfl
/-! EndingTown$Day -/
set_option maxRecDepth 100000
def RX10 : String := "EndingTown$Day"
def TX10 : u_T := fun k => match k with
  | 0 => ("EndingTown$Day", "round", "[I", true)
  | 1 => ("EndingTown$Day", "by", "[I", true)
  | 2 => ("EndingTown$Day", "eyes", "[I", true)
  | 3 => ("EndingTown$Day", "isLeft", "[Z", true)
  | 4 => ("EndingTown$Day", "free", "I", false)
  | _ => ("EndingTown$Day", "this$0", "LEndingTown;", true)
def tyX10 : Nat → FieldType := fun k => match k with
  | 0 => .array .int
  | 1 => .array .int
  | 2 => .array .int
  | 3 => .array .boolean
  | 4 => .int
  | _ => .object "EndingTown"
abbrev wsX100 : List Cond := u_ws RX10 TX10 6
theorem nmX10 : ∀ a, a < 6 → ∀ b, b < 6 → a ≠ b → (TX10 a).2.1 ≠ (TX10 b).2.1 := by decide +kernel
theorem tyX10_ok : ∀ k, k < 6 → parseFieldDescriptor (TX10 k).2.2.1 = some (tyX10 k) := by decide +kernel
abbrev cX10_init : ByteArray := prog_3_method_1_code
def yX10_init : MethodName := ⟨RX10, "<init>", "(LEndingTown;)V"⟩
def dkwX10_init_1 : List UInt8 := [181, 0, 19, 42, 16, 20, 188, 10, 181, 0, 22, 42, 16, 20, 188, 4, 181, 0, 25, 177]
abbrev dktX10_init_1 : List UInt8 := dkwX10_init_1 ++ []
def dkwX10_init_0 : List UInt8 := [42, 43, 181, 0, 3, 42, 183, 0, 9, 42, 16, 20, 188, 10, 181, 0, 15, 42, 16, 20, 188, 10]
abbrev dktX10_init_0 : List UInt8 := dkwX10_init_0 ++ dktX10_init_1
theorem dksX10_init_0 : cX10_init.data.toList.drop 0 = dktX10_init_0 := by decide +kernel
theorem dksX10_init_1 : cX10_init.data.toList.drop 22 = dktX10_init_1 := dk_seg dksX10_init_0 22 rfl rfl
theorem dX10_init_0 : decode cX10_init 0 = .ok (.aload_n 0, 1) := dk_42 (dk_at dksX10_init_0 0 rfl rfl)
theorem dX10_init_1 : decode cX10_init 1 = .ok (.aload_n 1, 1) := dk_43 (dk_at dksX10_init_0 1 rfl rfl)
theorem dX10_init_2 : decode cX10_init 2 = .ok (.putfield 3, 3) := dk_181 0 3 (dk_at dksX10_init_0 2 rfl rfl)
theorem dX10_init_5 : decode cX10_init 5 = .ok (.aload_n 0, 1) := dk_42 (dk_at dksX10_init_0 5 rfl rfl)
theorem dX10_init_6 : decode cX10_init 6 = .ok (.invokespecial 9, 3) := dk_183 0 9 (dk_at dksX10_init_0 6 rfl rfl)
theorem dX10_init_9 : decode cX10_init 9 = .ok (.aload_n 0, 1) := dk_42 (dk_at dksX10_init_0 9 rfl rfl)
theorem dX10_init_10 : decode cX10_init 10 = .ok (.bipush 20, 2) := dk_16 20 (dk_at dksX10_init_0 10 rfl rfl)
theorem dX10_init_12 : decode cX10_init 12 = .ok (.newarray .int, 2) := dk_188_10 (dk_at dksX10_init_0 12 rfl rfl)
theorem dX10_init_14 : decode cX10_init 14 = .ok (.putfield 15, 3) := dk_181 0 15 (dk_at dksX10_init_0 14 rfl rfl)
theorem dX10_init_17 : decode cX10_init 17 = .ok (.aload_n 0, 1) := dk_42 (dk_at dksX10_init_0 17 rfl rfl)
theorem dX10_init_18 : decode cX10_init 18 = .ok (.bipush 20, 2) := dk_16 20 (dk_at dksX10_init_0 18 rfl rfl)
theorem dX10_init_20 : decode cX10_init 20 = .ok (.newarray .int, 2) := dk_188_10 (dk_at dksX10_init_0 20 rfl rfl)
theorem dX10_init_22 : decode cX10_init 22 = .ok (.putfield 19, 3) := dk_181 0 19 (dk_at dksX10_init_1 0 rfl rfl)
theorem dX10_init_25 : decode cX10_init 25 = .ok (.aload_n 0, 1) := dk_42 (dk_at dksX10_init_1 3 rfl rfl)
theorem dX10_init_26 : decode cX10_init 26 = .ok (.bipush 20, 2) := dk_16 20 (dk_at dksX10_init_1 4 rfl rfl)
theorem dX10_init_28 : decode cX10_init 28 = .ok (.newarray .int, 2) := dk_188_10 (dk_at dksX10_init_1 6 rfl rfl)
theorem dX10_init_30 : decode cX10_init 30 = .ok (.putfield 22, 3) := dk_181 0 22 (dk_at dksX10_init_1 8 rfl rfl)
theorem dX10_init_33 : decode cX10_init 33 = .ok (.aload_n 0, 1) := dk_42 (dk_at dksX10_init_1 11 rfl rfl)
theorem dX10_init_34 : decode cX10_init 34 = .ok (.bipush 20, 2) := dk_16 20 (dk_at dksX10_init_1 12 rfl rfl)
theorem dX10_init_36 : decode cX10_init 36 = .ok (.newarray .boolean, 2) := dk_188_4 (dk_at dksX10_init_1 14 rfl rfl)
theorem dX10_init_38 : decode cX10_init 38 = .ok (.putfield 25, 3) := dk_181 0 25 (dk_at dksX10_init_1 16 rfl rfl)
theorem dX10_init_41 : decode cX10_init 41 = .ok (.return_, 1) := dk_177 (dk_at dksX10_init_1 19 rfl rfl)
abbrev cX10_begin : ByteArray := prog_3_method_2_code
def yX10_begin : MethodName := ⟨RX10, "begin", "(I)LEndingTown$Day;"⟩
def dkwX10_begin_2 : List UInt8 := [154, 0, 7, 4, 167, 0, 4, 3, 84, 132, 2, 1, 167, 255, 200, 42, 3, 181, 0, 49, 42, 176]
abbrev dktX10_begin_2 : List UInt8 := dkwX10_begin_2 ++ []
def dkwX10_begin_1 : List UInt8 := [42, 180, 0, 3, 180, 0, 29, 28, 185, 0, 39, 2, 0, 192, 0, 43, 180, 0, 45, 122, 4, 126]
abbrev dktX10_begin_1 : List UInt8 := dkwX10_begin_1 ++ dktX10_begin_2
def dkwX10_begin_0 : List UInt8 := [3, 61, 28, 42, 180, 0, 3, 180, 0, 29, 185, 0, 33, 1, 0, 162, 0, 46, 42, 180, 0, 25, 28, 27]
abbrev dktX10_begin_0 : List UInt8 := dkwX10_begin_0 ++ dktX10_begin_1
theorem dksX10_begin_0 : cX10_begin.data.toList.drop 0 = dktX10_begin_0 := by decide +kernel
theorem dksX10_begin_1 : cX10_begin.data.toList.drop 24 = dktX10_begin_1 := dk_seg dksX10_begin_0 24 rfl rfl
theorem dksX10_begin_2 : cX10_begin.data.toList.drop 46 = dktX10_begin_2 := dk_seg dksX10_begin_1 22 rfl rfl
theorem dX10_begin_0 : decode cX10_begin 0 = .ok (.iconst 0, 1) := dk_3 (dk_at dksX10_begin_0 0 rfl rfl)
theorem dX10_begin_1 : decode cX10_begin 1 = .ok (.istore_n 2, 1) := dk_61 (dk_at dksX10_begin_0 1 rfl rfl)
theorem dX10_begin_2 : decode cX10_begin 2 = .ok (.iload_n 2, 1) := dk_28 (dk_at dksX10_begin_0 2 rfl rfl)
theorem dX10_begin_3 : decode cX10_begin 3 = .ok (.aload_n 0, 1) := dk_42 (dk_at dksX10_begin_0 3 rfl rfl)
theorem dX10_begin_4 : decode cX10_begin 4 = .ok (.getfield 3, 3) := dk_180 0 3 (dk_at dksX10_begin_0 4 rfl rfl)
theorem dX10_begin_7 : decode cX10_begin 7 = .ok (.getfield 29, 3) := dk_180 0 29 (dk_at dksX10_begin_0 7 rfl rfl)
theorem dX10_begin_10 : decode cX10_begin 10 = .ok (.invokeinterface 33 1, 5) := by decide +kernel
theorem dX10_begin_15 : decode cX10_begin 15 = .ok (.if_icmp .ge 46, 3) := dk_162 0 46 (dk_at dksX10_begin_0 15 rfl rfl)
theorem dX10_begin_18 : decode cX10_begin 18 = .ok (.aload_n 0, 1) := dk_42 (dk_at dksX10_begin_0 18 rfl rfl)
theorem dX10_begin_19 : decode cX10_begin 19 = .ok (.getfield 25, 3) := dk_180 0 25 (dk_at dksX10_begin_0 19 rfl rfl)
theorem dX10_begin_22 : decode cX10_begin 22 = .ok (.iload_n 2, 1) := dk_28 (dk_at dksX10_begin_0 22 rfl rfl)
theorem dX10_begin_23 : decode cX10_begin 23 = .ok (.iload_n 1, 1) := dk_27 (dk_at dksX10_begin_0 23 rfl rfl)
theorem dX10_begin_24 : decode cX10_begin 24 = .ok (.aload_n 0, 1) := dk_42 (dk_at dksX10_begin_1 0 rfl rfl)
theorem dX10_begin_25 : decode cX10_begin 25 = .ok (.getfield 3, 3) := dk_180 0 3 (dk_at dksX10_begin_1 1 rfl rfl)
theorem dX10_begin_28 : decode cX10_begin 28 = .ok (.getfield 29, 3) := dk_180 0 29 (dk_at dksX10_begin_1 4 rfl rfl)
theorem dX10_begin_31 : decode cX10_begin 31 = .ok (.iload_n 2, 1) := dk_28 (dk_at dksX10_begin_1 7 rfl rfl)
theorem dX10_begin_32 : decode cX10_begin 32 = .ok (.invokeinterface 39 2, 5) := by decide +kernel
theorem dX10_begin_37 : decode cX10_begin 37 = .ok (.checkcast 43, 3) := dk_192 0 43 (dk_at dksX10_begin_1 13 rfl rfl)
theorem dX10_begin_40 : decode cX10_begin 40 = .ok (.getfield 45, 3) := dk_180 0 45 (dk_at dksX10_begin_1 16 rfl rfl)
theorem dX10_begin_43 : decode cX10_begin 43 = .ok (.ishr, 1) := dk_122 (dk_at dksX10_begin_1 19 rfl rfl)
theorem dX10_begin_44 : decode cX10_begin 44 = .ok (.iconst 1, 1) := dk_4 (dk_at dksX10_begin_1 20 rfl rfl)
theorem dX10_begin_45 : decode cX10_begin 45 = .ok (.iand, 1) := dk_126 (dk_at dksX10_begin_1 21 rfl rfl)
theorem dX10_begin_46 : decode cX10_begin 46 = .ok (.ifCond .ne 7, 3) := dk_154 0 7 (dk_at dksX10_begin_2 0 rfl rfl)
theorem dX10_begin_49 : decode cX10_begin 49 = .ok (.iconst 1, 1) := dk_4 (dk_at dksX10_begin_2 3 rfl rfl)
theorem dX10_begin_50 : decode cX10_begin 50 = .ok (.goto 4, 3) := dk_167 0 4 (dk_at dksX10_begin_2 4 rfl rfl)
theorem dX10_begin_53 : decode cX10_begin 53 = .ok (.iconst 0, 1) := dk_3 (dk_at dksX10_begin_2 7 rfl rfl)
theorem dX10_begin_54 : decode cX10_begin 54 = .ok (.bastore, 1) := dk_84 (dk_at dksX10_begin_2 8 rfl rfl)
theorem dX10_begin_55 : decode cX10_begin 55 = .ok (.iinc 2 1, 3) := dk_132 2 1 (dk_at dksX10_begin_2 9 rfl rfl)
theorem dX10_begin_58 : decode cX10_begin 58 = .ok (.goto (-56), 3) := dk_167 255 200 (dk_at dksX10_begin_2 12 rfl rfl)
theorem dX10_begin_61 : decode cX10_begin 61 = .ok (.aload_n 0, 1) := dk_42 (dk_at dksX10_begin_2 15 rfl rfl)
theorem dX10_begin_62 : decode cX10_begin 62 = .ok (.iconst 0, 1) := dk_3 (dk_at dksX10_begin_2 16 rfl rfl)
theorem dX10_begin_63 : decode cX10_begin 63 = .ok (.putfield 49, 3) := dk_181 0 49 (dk_at dksX10_begin_2 17 rfl rfl)
theorem dX10_begin_66 : decode cX10_begin 66 = .ok (.aload_n 0, 1) := dk_42 (dk_at dksX10_begin_2 20 rfl rfl)
theorem dX10_begin_67 : decode cX10_begin 67 = .ok (.areturn, 1) := dk_176 (dk_at dksX10_begin_2 21 rfl rfl)
abbrev cX10_tell : ByteArray := prog_3_method_4_code
def yX10_tell : MethodName := ⟨RX10, "tell", "()LEndingTown$Day;"⟩
def dkwX10_tell_4 : List UInt8 := [28, 182, 0, 52, 128, 60, 132, 3, 1, 167, 255, 194, 132, 2, 1, 167, 255, 180, 42, 176]
abbrev dktX10_tell_4 : List UInt8 := dkwX10_tell_4 ++ []
def dkwX10_tell_3 : List UInt8 := [29, 46, 154, 0, 28, 27, 42, 42, 180, 0, 3, 180, 0, 29, 29, 185, 0, 39, 2, 0, 192, 0, 43, 29]
abbrev dktX10_tell_3 : List UInt8 := dkwX10_tell_3 ++ dktX10_tell_4
def dkwX10_tell_2 : List UInt8 := [180, 0, 29, 185, 0, 33, 1, 0, 162, 0, 52, 42, 180, 0, 25, 29, 51, 153, 0, 37, 42, 180, 0, 15]
abbrev dktX10_tell_2 : List UInt8 := dkwX10_tell_2 ++ dktX10_tell_3
def dkwX10_tell_1 : List UInt8 := [79, 132, 1, 1, 167, 255, 230, 4, 60, 4, 61, 27, 153, 0, 78, 3, 60, 3, 62, 29, 42, 180, 0, 3]
abbrev dktX10_tell_1 : List UInt8 := dkwX10_tell_1 ++ dktX10_tell_2
def dkwX10_tell_0 : List UInt8 := [3, 60, 27, 42, 180, 0, 3, 180, 0, 29, 185, 0, 33, 1, 0, 162, 0, 16, 42, 180, 0, 15, 27, 3]
abbrev dktX10_tell_0 : List UInt8 := dkwX10_tell_0 ++ dktX10_tell_1
theorem dksX10_tell_0 : cX10_tell.data.toList.drop 0 = dktX10_tell_0 := by decide +kernel
theorem dksX10_tell_1 : cX10_tell.data.toList.drop 24 = dktX10_tell_1 := dk_seg dksX10_tell_0 24 rfl rfl
theorem dksX10_tell_2 : cX10_tell.data.toList.drop 48 = dktX10_tell_2 := dk_seg dksX10_tell_1 24 rfl rfl
theorem dksX10_tell_3 : cX10_tell.data.toList.drop 72 = dktX10_tell_3 := dk_seg dksX10_tell_2 24 rfl rfl
theorem dksX10_tell_4 : cX10_tell.data.toList.drop 96 = dktX10_tell_4 := dk_seg dksX10_tell_3 24 rfl rfl
theorem dX10_tell_0 : decode cX10_tell 0 = .ok (.iconst 0, 1) := dk_3 (dk_at dksX10_tell_0 0 rfl rfl)
theorem dX10_tell_1 : decode cX10_tell 1 = .ok (.istore_n 1, 1) := dk_60 (dk_at dksX10_tell_0 1 rfl rfl)
theorem dX10_tell_2 : decode cX10_tell 2 = .ok (.iload_n 1, 1) := dk_27 (dk_at dksX10_tell_0 2 rfl rfl)
theorem dX10_tell_3 : decode cX10_tell 3 = .ok (.aload_n 0, 1) := dk_42 (dk_at dksX10_tell_0 3 rfl rfl)
theorem dX10_tell_4 : decode cX10_tell 4 = .ok (.getfield 3, 3) := dk_180 0 3 (dk_at dksX10_tell_0 4 rfl rfl)
theorem dX10_tell_7 : decode cX10_tell 7 = .ok (.getfield 29, 3) := dk_180 0 29 (dk_at dksX10_tell_0 7 rfl rfl)
theorem dX10_tell_10 : decode cX10_tell 10 = .ok (.invokeinterface 33 1, 5) := by decide +kernel
theorem dX10_tell_15 : decode cX10_tell 15 = .ok (.if_icmp .ge 16, 3) := dk_162 0 16 (dk_at dksX10_tell_0 15 rfl rfl)
theorem dX10_tell_18 : decode cX10_tell 18 = .ok (.aload_n 0, 1) := dk_42 (dk_at dksX10_tell_0 18 rfl rfl)
theorem dX10_tell_19 : decode cX10_tell 19 = .ok (.getfield 15, 3) := dk_180 0 15 (dk_at dksX10_tell_0 19 rfl rfl)
theorem dX10_tell_22 : decode cX10_tell 22 = .ok (.iload_n 1, 1) := dk_27 (dk_at dksX10_tell_0 22 rfl rfl)
theorem dX10_tell_23 : decode cX10_tell 23 = .ok (.iconst 0, 1) := dk_3 (dk_at dksX10_tell_0 23 rfl rfl)
theorem dX10_tell_24 : decode cX10_tell 24 = .ok (.iastore, 1) := dk_79 (dk_at dksX10_tell_1 0 rfl rfl)
theorem dX10_tell_25 : decode cX10_tell 25 = .ok (.iinc 1 1, 3) := dk_132 1 1 (dk_at dksX10_tell_1 1 rfl rfl)
theorem dX10_tell_28 : decode cX10_tell 28 = .ok (.goto (-26), 3) := dk_167 255 230 (dk_at dksX10_tell_1 4 rfl rfl)
theorem dX10_tell_31 : decode cX10_tell 31 = .ok (.iconst 1, 1) := dk_4 (dk_at dksX10_tell_1 7 rfl rfl)
theorem dX10_tell_32 : decode cX10_tell 32 = .ok (.istore_n 1, 1) := dk_60 (dk_at dksX10_tell_1 8 rfl rfl)
theorem dX10_tell_33 : decode cX10_tell 33 = .ok (.iconst 1, 1) := dk_4 (dk_at dksX10_tell_1 9 rfl rfl)
theorem dX10_tell_34 : decode cX10_tell 34 = .ok (.istore_n 2, 1) := dk_61 (dk_at dksX10_tell_1 10 rfl rfl)
theorem dX10_tell_35 : decode cX10_tell 35 = .ok (.iload_n 1, 1) := dk_27 (dk_at dksX10_tell_1 11 rfl rfl)
theorem dX10_tell_36 : decode cX10_tell 36 = .ok (.ifCond .eq 78, 3) := dk_153 0 78 (dk_at dksX10_tell_1 12 rfl rfl)
theorem dX10_tell_39 : decode cX10_tell 39 = .ok (.iconst 0, 1) := dk_3 (dk_at dksX10_tell_1 15 rfl rfl)
theorem dX10_tell_40 : decode cX10_tell 40 = .ok (.istore_n 1, 1) := dk_60 (dk_at dksX10_tell_1 16 rfl rfl)
theorem dX10_tell_41 : decode cX10_tell 41 = .ok (.iconst 0, 1) := dk_3 (dk_at dksX10_tell_1 17 rfl rfl)
theorem dX10_tell_42 : decode cX10_tell 42 = .ok (.istore_n 3, 1) := dk_62 (dk_at dksX10_tell_1 18 rfl rfl)
theorem dX10_tell_43 : decode cX10_tell 43 = .ok (.iload_n 3, 1) := dk_29 (dk_at dksX10_tell_1 19 rfl rfl)
theorem dX10_tell_44 : decode cX10_tell 44 = .ok (.aload_n 0, 1) := dk_42 (dk_at dksX10_tell_1 20 rfl rfl)
theorem dX10_tell_45 : decode cX10_tell 45 = .ok (.getfield 3, 3) := dk_180 0 3 (dk_at dksX10_tell_1 21 rfl rfl)
theorem dX10_tell_48 : decode cX10_tell 48 = .ok (.getfield 29, 3) := dk_180 0 29 (dk_at dksX10_tell_2 0 rfl rfl)
theorem dX10_tell_51 : decode cX10_tell 51 = .ok (.invokeinterface 33 1, 5) := by decide +kernel
theorem dX10_tell_56 : decode cX10_tell 56 = .ok (.if_icmp .ge 52, 3) := dk_162 0 52 (dk_at dksX10_tell_2 8 rfl rfl)
theorem dX10_tell_59 : decode cX10_tell 59 = .ok (.aload_n 0, 1) := dk_42 (dk_at dksX10_tell_2 11 rfl rfl)
theorem dX10_tell_60 : decode cX10_tell 60 = .ok (.getfield 25, 3) := dk_180 0 25 (dk_at dksX10_tell_2 12 rfl rfl)
theorem dX10_tell_63 : decode cX10_tell 63 = .ok (.iload_n 3, 1) := dk_29 (dk_at dksX10_tell_2 15 rfl rfl)
theorem dX10_tell_64 : decode cX10_tell 64 = .ok (.baload, 1) := dk_51 (dk_at dksX10_tell_2 16 rfl rfl)
theorem dX10_tell_65 : decode cX10_tell 65 = .ok (.ifCond .eq 37, 3) := dk_153 0 37 (dk_at dksX10_tell_2 17 rfl rfl)
theorem dX10_tell_68 : decode cX10_tell 68 = .ok (.aload_n 0, 1) := dk_42 (dk_at dksX10_tell_2 20 rfl rfl)
theorem dX10_tell_69 : decode cX10_tell 69 = .ok (.getfield 15, 3) := dk_180 0 15 (dk_at dksX10_tell_2 21 rfl rfl)
theorem dX10_tell_72 : decode cX10_tell 72 = .ok (.iload_n 3, 1) := dk_29 (dk_at dksX10_tell_3 0 rfl rfl)
theorem dX10_tell_73 : decode cX10_tell 73 = .ok (.iaload, 1) := dk_46 (dk_at dksX10_tell_3 1 rfl rfl)
theorem dX10_tell_74 : decode cX10_tell 74 = .ok (.ifCond .ne 28, 3) := dk_154 0 28 (dk_at dksX10_tell_3 2 rfl rfl)
theorem dX10_tell_77 : decode cX10_tell 77 = .ok (.iload_n 1, 1) := dk_27 (dk_at dksX10_tell_3 5 rfl rfl)
theorem dX10_tell_78 : decode cX10_tell 78 = .ok (.aload_n 0, 1) := dk_42 (dk_at dksX10_tell_3 6 rfl rfl)
theorem dX10_tell_79 : decode cX10_tell 79 = .ok (.aload_n 0, 1) := dk_42 (dk_at dksX10_tell_3 7 rfl rfl)
theorem dX10_tell_80 : decode cX10_tell 80 = .ok (.getfield 3, 3) := dk_180 0 3 (dk_at dksX10_tell_3 8 rfl rfl)
theorem dX10_tell_83 : decode cX10_tell 83 = .ok (.getfield 29, 3) := dk_180 0 29 (dk_at dksX10_tell_3 11 rfl rfl)
theorem dX10_tell_86 : decode cX10_tell 86 = .ok (.iload_n 3, 1) := dk_29 (dk_at dksX10_tell_3 14 rfl rfl)
theorem dX10_tell_87 : decode cX10_tell 87 = .ok (.invokeinterface 39 2, 5) := by decide +kernel
theorem dX10_tell_92 : decode cX10_tell 92 = .ok (.checkcast 43, 3) := dk_192 0 43 (dk_at dksX10_tell_3 20 rfl rfl)
theorem dX10_tell_95 : decode cX10_tell 95 = .ok (.iload_n 3, 1) := dk_29 (dk_at dksX10_tell_3 23 rfl rfl)
theorem dX10_tell_96 : decode cX10_tell 96 = .ok (.iload_n 2, 1) := dk_28 (dk_at dksX10_tell_4 0 rfl rfl)
theorem dX10_tell_97 : decode cX10_tell 97 = .ok (.invokevirtual 52, 3) := dk_182 0 52 (dk_at dksX10_tell_4 1 rfl rfl)
theorem dX10_tell_100 : decode cX10_tell 100 = .ok (.ior, 1) := dk_128 (dk_at dksX10_tell_4 4 rfl rfl)
theorem dX10_tell_101 : decode cX10_tell 101 = .ok (.istore_n 1, 1) := dk_60 (dk_at dksX10_tell_4 5 rfl rfl)
theorem dX10_tell_102 : decode cX10_tell 102 = .ok (.iinc 3 1, 3) := dk_132 3 1 (dk_at dksX10_tell_4 6 rfl rfl)
theorem dX10_tell_105 : decode cX10_tell 105 = .ok (.goto (-62), 3) := dk_167 255 194 (dk_at dksX10_tell_4 9 rfl rfl)
theorem dX10_tell_108 : decode cX10_tell 108 = .ok (.iinc 2 1, 3) := dk_132 2 1 (dk_at dksX10_tell_4 12 rfl rfl)
theorem dX10_tell_111 : decode cX10_tell 111 = .ok (.goto (-76), 3) := dk_167 255 180 (dk_at dksX10_tell_4 15 rfl rfl)
theorem dX10_tell_114 : decode cX10_tell 114 = .ok (.aload_n 0, 1) := dk_42 (dk_at dksX10_tell_4 18 rfl rfl)
theorem dX10_tell_115 : decode cX10_tell 115 = .ok (.areturn, 1) := dk_176 (dk_at dksX10_tell_4 19 rfl rfl)
abbrev cX10_attempt : ByteArray := prog_3_method_5_code
def yX10_attempt : MethodName := ⟨RX10, "attempt", "(LEndingTown$Saying;II)Z"⟩
def dkwX10_attempt_5 : List UInt8 := [42, 180, 0, 19, 28, 21, 6, 79, 4, 172, 132, 6, 1, 167, 255, 161, 21, 4, 172]
abbrev dktX10_attempt_5 : List UInt8 := dkwX10_attempt_5 ++ []
def dkwX10_attempt_4 : List UInt8 := [4, 167, 0, 4, 3, 128, 54, 4, 21, 7, 29, 159, 0, 6, 167, 0, 20, 42, 180, 0, 15, 28, 29, 79]
abbrev dktX10_attempt_4 : List UInt8 := dkwX10_attempt_4 ++ dktX10_attempt_5
def dkwX10_attempt_3 : List UInt8 := [180, 0, 63, 43, 180, 0, 66, 43, 180, 0, 69, 182, 0, 73, 54, 7, 21, 4, 21, 7, 29, 164, 0, 7]
abbrev dktX10_attempt_3 : List UInt8 := dkwX10_attempt_3 ++ dktX10_attempt_4
def dkwX10_attempt_2 : List UInt8 := [43, 180, 0, 56, 163, 0, 83, 42, 180, 0, 3, 180, 0, 59, 21, 6, 50, 42, 43, 180, 0, 45, 43]
abbrev dktX10_attempt_2 : List UInt8 := dkwX10_attempt_2 ++ dktX10_attempt_3
def dkwX10_attempt_1 : List UInt8 := [153, 0, 7, 3, 167, 0, 7, 43, 180, 0, 56, 54, 6, 21, 6, 21, 5, 153, 0, 7, 6, 167, 0, 7]
abbrev dktX10_attempt_1 : List UInt8 := dkwX10_attempt_1 ++ dktX10_attempt_2
def dkwX10_attempt_0 : List UInt8 := [3, 54, 4, 42, 180, 0, 49, 28, 122, 4, 126, 4, 160, 0, 7, 4, 167, 0, 4, 3, 54, 5, 21, 5]
abbrev dktX10_attempt_0 : List UInt8 := dkwX10_attempt_0 ++ dktX10_attempt_1
theorem dksX10_attempt_0 : cX10_attempt.data.toList.drop 0 = dktX10_attempt_0 := by decide +kernel
theorem dksX10_attempt_1 : cX10_attempt.data.toList.drop 24 = dktX10_attempt_1 := dk_seg dksX10_attempt_0 24 rfl rfl
theorem dksX10_attempt_2 : cX10_attempt.data.toList.drop 48 = dktX10_attempt_2 := dk_seg dksX10_attempt_1 24 rfl rfl
theorem dksX10_attempt_3 : cX10_attempt.data.toList.drop 71 = dktX10_attempt_3 := dk_seg dksX10_attempt_2 23 rfl rfl
theorem dksX10_attempt_4 : cX10_attempt.data.toList.drop 95 = dktX10_attempt_4 := dk_seg dksX10_attempt_3 24 rfl rfl
theorem dksX10_attempt_5 : cX10_attempt.data.toList.drop 119 = dktX10_attempt_5 := dk_seg dksX10_attempt_4 24 rfl rfl
theorem dX10_attempt_0 : decode cX10_attempt 0 = .ok (.iconst 0, 1) := dk_3 (dk_at dksX10_attempt_0 0 rfl rfl)
theorem dX10_attempt_1 : decode cX10_attempt 1 = .ok (.istore 4, 2) := dk_54 4 (dk_at dksX10_attempt_0 1 rfl rfl)
theorem dX10_attempt_3 : decode cX10_attempt 3 = .ok (.aload_n 0, 1) := dk_42 (dk_at dksX10_attempt_0 3 rfl rfl)
theorem dX10_attempt_4 : decode cX10_attempt 4 = .ok (.getfield 49, 3) := dk_180 0 49 (dk_at dksX10_attempt_0 4 rfl rfl)
theorem dX10_attempt_7 : decode cX10_attempt 7 = .ok (.iload_n 2, 1) := dk_28 (dk_at dksX10_attempt_0 7 rfl rfl)
theorem dX10_attempt_8 : decode cX10_attempt 8 = .ok (.ishr, 1) := dk_122 (dk_at dksX10_attempt_0 8 rfl rfl)
theorem dX10_attempt_9 : decode cX10_attempt 9 = .ok (.iconst 1, 1) := dk_4 (dk_at dksX10_attempt_0 9 rfl rfl)
theorem dX10_attempt_10 : decode cX10_attempt 10 = .ok (.iand, 1) := dk_126 (dk_at dksX10_attempt_0 10 rfl rfl)
theorem dX10_attempt_11 : decode cX10_attempt 11 = .ok (.iconst 1, 1) := dk_4 (dk_at dksX10_attempt_0 11 rfl rfl)
theorem dX10_attempt_12 : decode cX10_attempt 12 = .ok (.if_icmp .ne 7, 3) := dk_160 0 7 (dk_at dksX10_attempt_0 12 rfl rfl)
theorem dX10_attempt_15 : decode cX10_attempt 15 = .ok (.iconst 1, 1) := dk_4 (dk_at dksX10_attempt_0 15 rfl rfl)
theorem dX10_attempt_16 : decode cX10_attempt 16 = .ok (.goto 4, 3) := dk_167 0 4 (dk_at dksX10_attempt_0 16 rfl rfl)
theorem dX10_attempt_19 : decode cX10_attempt 19 = .ok (.iconst 0, 1) := dk_3 (dk_at dksX10_attempt_0 19 rfl rfl)
theorem dX10_attempt_20 : decode cX10_attempt 20 = .ok (.istore 5, 2) := dk_54 5 (dk_at dksX10_attempt_0 20 rfl rfl)
theorem dX10_attempt_22 : decode cX10_attempt 22 = .ok (.iload 5, 2) := dk_21 5 (dk_at dksX10_attempt_0 22 rfl rfl)
theorem dX10_attempt_24 : decode cX10_attempt 24 = .ok (.ifCond .eq 7, 3) := dk_153 0 7 (dk_at dksX10_attempt_1 0 rfl rfl)
theorem dX10_attempt_27 : decode cX10_attempt 27 = .ok (.iconst 0, 1) := dk_3 (dk_at dksX10_attempt_1 3 rfl rfl)
theorem dX10_attempt_28 : decode cX10_attempt 28 = .ok (.goto 7, 3) := dk_167 0 7 (dk_at dksX10_attempt_1 4 rfl rfl)
theorem dX10_attempt_31 : decode cX10_attempt 31 = .ok (.aload_n 1, 1) := dk_43 (dk_at dksX10_attempt_1 7 rfl rfl)
theorem dX10_attempt_32 : decode cX10_attempt 32 = .ok (.getfield 56, 3) := dk_180 0 56 (dk_at dksX10_attempt_1 8 rfl rfl)
theorem dX10_attempt_35 : decode cX10_attempt 35 = .ok (.istore 6, 2) := dk_54 6 (dk_at dksX10_attempt_1 11 rfl rfl)
theorem dX10_attempt_37 : decode cX10_attempt 37 = .ok (.iload 6, 2) := dk_21 6 (dk_at dksX10_attempt_1 13 rfl rfl)
theorem dX10_attempt_39 : decode cX10_attempt 39 = .ok (.iload 5, 2) := dk_21 5 (dk_at dksX10_attempt_1 15 rfl rfl)
theorem dX10_attempt_41 : decode cX10_attempt 41 = .ok (.ifCond .eq 7, 3) := dk_153 0 7 (dk_at dksX10_attempt_1 17 rfl rfl)
theorem dX10_attempt_44 : decode cX10_attempt 44 = .ok (.iconst 3, 1) := dk_6 (dk_at dksX10_attempt_1 20 rfl rfl)
theorem dX10_attempt_45 : decode cX10_attempt 45 = .ok (.goto 7, 3) := dk_167 0 7 (dk_at dksX10_attempt_1 21 rfl rfl)
theorem dX10_attempt_48 : decode cX10_attempt 48 = .ok (.aload_n 1, 1) := dk_43 (dk_at dksX10_attempt_2 0 rfl rfl)
theorem dX10_attempt_49 : decode cX10_attempt 49 = .ok (.getfield 56, 3) := dk_180 0 56 (dk_at dksX10_attempt_2 1 rfl rfl)
theorem dX10_attempt_52 : decode cX10_attempt 52 = .ok (.if_icmp .gt 83, 3) := dk_163 0 83 (dk_at dksX10_attempt_2 4 rfl rfl)
theorem dX10_attempt_55 : decode cX10_attempt 55 = .ok (.aload_n 0, 1) := dk_42 (dk_at dksX10_attempt_2 7 rfl rfl)
theorem dX10_attempt_56 : decode cX10_attempt 56 = .ok (.getfield 3, 3) := dk_180 0 3 (dk_at dksX10_attempt_2 8 rfl rfl)
theorem dX10_attempt_59 : decode cX10_attempt 59 = .ok (.getfield 59, 3) := dk_180 0 59 (dk_at dksX10_attempt_2 11 rfl rfl)
theorem dX10_attempt_62 : decode cX10_attempt 62 = .ok (.iload 6, 2) := dk_21 6 (dk_at dksX10_attempt_2 14 rfl rfl)
theorem dX10_attempt_64 : decode cX10_attempt 64 = .ok (.aaload, 1) := dk_50 (dk_at dksX10_attempt_2 16 rfl rfl)
theorem dX10_attempt_65 : decode cX10_attempt 65 = .ok (.aload_n 0, 1) := dk_42 (dk_at dksX10_attempt_2 17 rfl rfl)
theorem dX10_attempt_66 : decode cX10_attempt 66 = .ok (.aload_n 1, 1) := dk_43 (dk_at dksX10_attempt_2 18 rfl rfl)
theorem dX10_attempt_67 : decode cX10_attempt 67 = .ok (.getfield 45, 3) := dk_180 0 45 (dk_at dksX10_attempt_2 19 rfl rfl)
theorem dX10_attempt_70 : decode cX10_attempt 70 = .ok (.aload_n 1, 1) := dk_43 (dk_at dksX10_attempt_2 22 rfl rfl)
theorem dX10_attempt_71 : decode cX10_attempt 71 = .ok (.getfield 63, 3) := dk_180 0 63 (dk_at dksX10_attempt_3 0 rfl rfl)
theorem dX10_attempt_74 : decode cX10_attempt 74 = .ok (.aload_n 1, 1) := dk_43 (dk_at dksX10_attempt_3 3 rfl rfl)
theorem dX10_attempt_75 : decode cX10_attempt 75 = .ok (.getfield 66, 3) := dk_180 0 66 (dk_at dksX10_attempt_3 4 rfl rfl)
theorem dX10_attempt_78 : decode cX10_attempt 78 = .ok (.aload_n 1, 1) := dk_43 (dk_at dksX10_attempt_3 7 rfl rfl)
theorem dX10_attempt_79 : decode cX10_attempt 79 = .ok (.getfield 69, 3) := dk_180 0 69 (dk_at dksX10_attempt_3 8 rfl rfl)
theorem dX10_attempt_82 : decode cX10_attempt 82 = .ok (.invokevirtual 73, 3) := dk_182 0 73 (dk_at dksX10_attempt_3 11 rfl rfl)
theorem dX10_attempt_85 : decode cX10_attempt 85 = .ok (.istore 7, 2) := dk_54 7 (dk_at dksX10_attempt_3 14 rfl rfl)
theorem dX10_attempt_87 : decode cX10_attempt 87 = .ok (.iload 4, 2) := dk_21 4 (dk_at dksX10_attempt_3 16 rfl rfl)
theorem dX10_attempt_89 : decode cX10_attempt 89 = .ok (.iload 7, 2) := dk_21 7 (dk_at dksX10_attempt_3 18 rfl rfl)
theorem dX10_attempt_91 : decode cX10_attempt 91 = .ok (.iload_n 3, 1) := dk_29 (dk_at dksX10_attempt_3 20 rfl rfl)
theorem dX10_attempt_92 : decode cX10_attempt 92 = .ok (.if_icmp .le 7, 3) := dk_164 0 7 (dk_at dksX10_attempt_3 21 rfl rfl)
theorem dX10_attempt_95 : decode cX10_attempt 95 = .ok (.iconst 1, 1) := dk_4 (dk_at dksX10_attempt_4 0 rfl rfl)
theorem dX10_attempt_96 : decode cX10_attempt 96 = .ok (.goto 4, 3) := dk_167 0 4 (dk_at dksX10_attempt_4 1 rfl rfl)
theorem dX10_attempt_99 : decode cX10_attempt 99 = .ok (.iconst 0, 1) := dk_3 (dk_at dksX10_attempt_4 4 rfl rfl)
theorem dX10_attempt_100 : decode cX10_attempt 100 = .ok (.ior, 1) := dk_128 (dk_at dksX10_attempt_4 5 rfl rfl)
theorem dX10_attempt_101 : decode cX10_attempt 101 = .ok (.istore 4, 2) := dk_54 4 (dk_at dksX10_attempt_4 6 rfl rfl)
theorem dX10_attempt_103 : decode cX10_attempt 103 = .ok (.iload 7, 2) := dk_21 7 (dk_at dksX10_attempt_4 8 rfl rfl)
theorem dX10_attempt_105 : decode cX10_attempt 105 = .ok (.iload_n 3, 1) := dk_29 (dk_at dksX10_attempt_4 10 rfl rfl)
theorem dX10_attempt_106 : decode cX10_attempt 106 = .ok (.if_icmp .eq 6, 3) := dk_159 0 6 (dk_at dksX10_attempt_4 11 rfl rfl)
theorem dX10_attempt_109 : decode cX10_attempt 109 = .ok (.goto 20, 3) := dk_167 0 20 (dk_at dksX10_attempt_4 14 rfl rfl)
theorem dX10_attempt_112 : decode cX10_attempt 112 = .ok (.aload_n 0, 1) := dk_42 (dk_at dksX10_attempt_4 17 rfl rfl)
theorem dX10_attempt_113 : decode cX10_attempt 113 = .ok (.getfield 15, 3) := dk_180 0 15 (dk_at dksX10_attempt_4 18 rfl rfl)
theorem dX10_attempt_116 : decode cX10_attempt 116 = .ok (.iload_n 2, 1) := dk_28 (dk_at dksX10_attempt_4 21 rfl rfl)
theorem dX10_attempt_117 : decode cX10_attempt 117 = .ok (.iload_n 3, 1) := dk_29 (dk_at dksX10_attempt_4 22 rfl rfl)
theorem dX10_attempt_118 : decode cX10_attempt 118 = .ok (.iastore, 1) := dk_79 (dk_at dksX10_attempt_4 23 rfl rfl)
theorem dX10_attempt_119 : decode cX10_attempt 119 = .ok (.aload_n 0, 1) := dk_42 (dk_at dksX10_attempt_5 0 rfl rfl)
theorem dX10_attempt_120 : decode cX10_attempt 120 = .ok (.getfield 19, 3) := dk_180 0 19 (dk_at dksX10_attempt_5 1 rfl rfl)
theorem dX10_attempt_123 : decode cX10_attempt 123 = .ok (.iload_n 2, 1) := dk_28 (dk_at dksX10_attempt_5 4 rfl rfl)
theorem dX10_attempt_124 : decode cX10_attempt 124 = .ok (.iload 6, 2) := dk_21 6 (dk_at dksX10_attempt_5 5 rfl rfl)
theorem dX10_attempt_126 : decode cX10_attempt 126 = .ok (.iastore, 1) := dk_79 (dk_at dksX10_attempt_5 7 rfl rfl)
theorem dX10_attempt_127 : decode cX10_attempt 127 = .ok (.iconst 1, 1) := dk_4 (dk_at dksX10_attempt_5 8 rfl rfl)
theorem dX10_attempt_128 : decode cX10_attempt 128 = .ok (.ireturn, 1) := dk_172 (dk_at dksX10_attempt_5 9 rfl rfl)
theorem dX10_attempt_129 : decode cX10_attempt 129 = .ok (.iinc 6 1, 3) := dk_132 6 1 (dk_at dksX10_attempt_5 10 rfl rfl)
theorem dX10_attempt_132 : decode cX10_attempt 132 = .ok (.goto (-95), 3) := dk_167 255 161 (dk_at dksX10_attempt_5 13 rfl rfl)
theorem dX10_attempt_135 : decode cX10_attempt 135 = .ok (.iload 4, 2) := dk_21 4 (dk_at dksX10_attempt_5 16 rfl rfl)
theorem dX10_attempt_137 : decode cX10_attempt 137 = .ok (.ireturn, 1) := dk_172 (dk_at dksX10_attempt_5 18 rfl rfl)
abbrev cX10_tells : ByteArray := prog_3_method_3_code
def yX10_tells : MethodName := ⟨RX10, "tells", "(I)Z"⟩
def dkwX10_tells_1 : List UInt8 := [7, 159, 0, 7, 4, 167, 0, 4, 3, 172]
abbrev dktX10_tells_1 : List UInt8 := dkwX10_tells_1 ++ []
def dkwX10_tells_0 : List UInt8 := [42, 180, 0, 25, 27, 51, 153, 0, 26, 42, 180, 0, 15, 27, 46, 158, 0, 17, 42, 180, 0, 19, 27, 46]
abbrev dktX10_tells_0 : List UInt8 := dkwX10_tells_0 ++ dktX10_tells_1
theorem dksX10_tells_0 : cX10_tells.data.toList.drop 0 = dktX10_tells_0 := by decide +kernel
theorem dksX10_tells_1 : cX10_tells.data.toList.drop 24 = dktX10_tells_1 := dk_seg dksX10_tells_0 24 rfl rfl
theorem dX10_tells_0 : decode cX10_tells 0 = .ok (.aload_n 0, 1) := dk_42 (dk_at dksX10_tells_0 0 rfl rfl)
theorem dX10_tells_1 : decode cX10_tells 1 = .ok (.getfield 25, 3) := dk_180 0 25 (dk_at dksX10_tells_0 1 rfl rfl)
theorem dX10_tells_4 : decode cX10_tells 4 = .ok (.iload_n 1, 1) := dk_27 (dk_at dksX10_tells_0 4 rfl rfl)
theorem dX10_tells_5 : decode cX10_tells 5 = .ok (.baload, 1) := dk_51 (dk_at dksX10_tells_0 5 rfl rfl)
theorem dX10_tells_6 : decode cX10_tells 6 = .ok (.ifCond .eq 26, 3) := dk_153 0 26 (dk_at dksX10_tells_0 6 rfl rfl)
theorem dX10_tells_9 : decode cX10_tells 9 = .ok (.aload_n 0, 1) := dk_42 (dk_at dksX10_tells_0 9 rfl rfl)
theorem dX10_tells_10 : decode cX10_tells 10 = .ok (.getfield 15, 3) := dk_180 0 15 (dk_at dksX10_tells_0 10 rfl rfl)
theorem dX10_tells_13 : decode cX10_tells 13 = .ok (.iload_n 1, 1) := dk_27 (dk_at dksX10_tells_0 13 rfl rfl)
theorem dX10_tells_14 : decode cX10_tells 14 = .ok (.iaload, 1) := dk_46 (dk_at dksX10_tells_0 14 rfl rfl)
theorem dX10_tells_15 : decode cX10_tells 15 = .ok (.ifCond .le 17, 3) := dk_158 0 17 (dk_at dksX10_tells_0 15 rfl rfl)
theorem dX10_tells_18 : decode cX10_tells 18 = .ok (.aload_n 0, 1) := dk_42 (dk_at dksX10_tells_0 18 rfl rfl)
theorem dX10_tells_19 : decode cX10_tells 19 = .ok (.getfield 19, 3) := dk_180 0 19 (dk_at dksX10_tells_0 19 rfl rfl)
theorem dX10_tells_22 : decode cX10_tells 22 = .ok (.iload_n 1, 1) := dk_27 (dk_at dksX10_tells_0 22 rfl rfl)
theorem dX10_tells_23 : decode cX10_tells 23 = .ok (.iaload, 1) := dk_46 (dk_at dksX10_tells_0 23 rfl rfl)
theorem dX10_tells_24 : decode cX10_tells 24 = .ok (.iconst 4, 1) := dk_7 (dk_at dksX10_tells_1 0 rfl rfl)
theorem dX10_tells_25 : decode cX10_tells 25 = .ok (.if_icmp .eq 7, 3) := dk_159 0 7 (dk_at dksX10_tells_1 1 rfl rfl)
theorem dX10_tells_28 : decode cX10_tells 28 = .ok (.iconst 1, 1) := dk_4 (dk_at dksX10_tells_1 4 rfl rfl)
theorem dX10_tells_29 : decode cX10_tells 29 = .ok (.goto 4, 3) := dk_167 0 4 (dk_at dksX10_tells_1 5 rfl rfl)
theorem dX10_tells_32 : decode cX10_tells 32 = .ok (.iconst 0, 1) := dk_3 (dk_at dksX10_tells_1 8 rfl rfl)
theorem dX10_tells_33 : decode cX10_tells 33 = .ok (.ireturn, 1) := dk_172 (dk_at dksX10_tells_1 9 rfl rfl)
abbrev cX10_see : ByteArray := prog_3_method_6_code
def yX10_see : MethodName := ⟨RX10, "see", "()V"⟩
def dkwX10_see_6 : List UInt8 := [42, 180, 0, 22, 28, 21, 4, 79, 132, 2, 1, 167, 255, 146, 167, 255, 135, 177]
abbrev dktX10_see_6 : List UInt8 := dkwX10_see_6 ++ []
def dkwX10_see_5 : List UInt8 := [182, 0, 78, 54, 4, 27, 21, 4, 42, 180, 0, 22, 28, 46, 159, 0, 7, 4, 167, 0, 4, 3, 128, 60]
abbrev dktX10_see_5 : List UInt8 := dkwX10_see_5 ++ dktX10_see_6
def dkwX10_see_4 : List UInt8 := [180, 0, 56, 50, 42, 45, 180, 0, 45, 45, 180, 0, 63, 45, 180, 0, 66, 45, 180, 0, 69, 3]
abbrev dktX10_see_4 : List UInt8 := dkwX10_see_4 ++ dktX10_see_5
def dkwX10_see_3 : List UInt8 := [180, 0, 3, 180, 0, 29, 28, 185, 0, 39, 2, 0, 192, 0, 43, 78, 42, 180, 0, 3, 180, 0, 59, 45]
abbrev dktX10_see_3 : List UInt8 := dkwX10_see_3 ++ dktX10_see_4
def dkwX10_see_2 : List UInt8 := [180, 0, 29, 185, 0, 33, 1, 0, 162, 0, 100, 42, 180, 0, 15, 28, 46, 154, 0, 6, 167, 0, 82, 42]
abbrev dktX10_see_2 : List UInt8 := dkwX10_see_2 ++ dktX10_see_3
def dkwX10_see_1 : List UInt8 := [79, 132, 1, 1, 167, 255, 230, 4, 60, 27, 153, 0, 123, 3, 60, 3, 61, 28, 42, 180, 0, 3]
abbrev dktX10_see_1 : List UInt8 := dkwX10_see_1 ++ dktX10_see_2
def dkwX10_see_0 : List UInt8 := [3, 60, 27, 42, 180, 0, 3, 180, 0, 29, 185, 0, 33, 1, 0, 162, 0, 16, 42, 180, 0, 22, 27, 3]
abbrev dktX10_see_0 : List UInt8 := dkwX10_see_0 ++ dktX10_see_1
theorem dksX10_see_0 : cX10_see.data.toList.drop 0 = dktX10_see_0 := by decide +kernel
theorem dksX10_see_1 : cX10_see.data.toList.drop 24 = dktX10_see_1 := dk_seg dksX10_see_0 24 rfl rfl
theorem dksX10_see_2 : cX10_see.data.toList.drop 46 = dktX10_see_2 := dk_seg dksX10_see_1 22 rfl rfl
theorem dksX10_see_3 : cX10_see.data.toList.drop 70 = dktX10_see_3 := dk_seg dksX10_see_2 24 rfl rfl
theorem dksX10_see_4 : cX10_see.data.toList.drop 94 = dktX10_see_4 := dk_seg dksX10_see_3 24 rfl rfl
theorem dksX10_see_5 : cX10_see.data.toList.drop 116 = dktX10_see_5 := dk_seg dksX10_see_4 22 rfl rfl
theorem dksX10_see_6 : cX10_see.data.toList.drop 140 = dktX10_see_6 := dk_seg dksX10_see_5 24 rfl rfl
theorem dX10_see_0 : decode cX10_see 0 = .ok (.iconst 0, 1) := dk_3 (dk_at dksX10_see_0 0 rfl rfl)
theorem dX10_see_1 : decode cX10_see 1 = .ok (.istore_n 1, 1) := dk_60 (dk_at dksX10_see_0 1 rfl rfl)
theorem dX10_see_2 : decode cX10_see 2 = .ok (.iload_n 1, 1) := dk_27 (dk_at dksX10_see_0 2 rfl rfl)
theorem dX10_see_3 : decode cX10_see 3 = .ok (.aload_n 0, 1) := dk_42 (dk_at dksX10_see_0 3 rfl rfl)
theorem dX10_see_4 : decode cX10_see 4 = .ok (.getfield 3, 3) := dk_180 0 3 (dk_at dksX10_see_0 4 rfl rfl)
theorem dX10_see_7 : decode cX10_see 7 = .ok (.getfield 29, 3) := dk_180 0 29 (dk_at dksX10_see_0 7 rfl rfl)
theorem dX10_see_10 : decode cX10_see 10 = .ok (.invokeinterface 33 1, 5) := by decide +kernel
theorem dX10_see_15 : decode cX10_see 15 = .ok (.if_icmp .ge 16, 3) := dk_162 0 16 (dk_at dksX10_see_0 15 rfl rfl)
theorem dX10_see_18 : decode cX10_see 18 = .ok (.aload_n 0, 1) := dk_42 (dk_at dksX10_see_0 18 rfl rfl)
theorem dX10_see_19 : decode cX10_see 19 = .ok (.getfield 22, 3) := dk_180 0 22 (dk_at dksX10_see_0 19 rfl rfl)
theorem dX10_see_22 : decode cX10_see 22 = .ok (.iload_n 1, 1) := dk_27 (dk_at dksX10_see_0 22 rfl rfl)
theorem dX10_see_23 : decode cX10_see 23 = .ok (.iconst 0, 1) := dk_3 (dk_at dksX10_see_0 23 rfl rfl)
theorem dX10_see_24 : decode cX10_see 24 = .ok (.iastore, 1) := dk_79 (dk_at dksX10_see_1 0 rfl rfl)
theorem dX10_see_25 : decode cX10_see 25 = .ok (.iinc 1 1, 3) := dk_132 1 1 (dk_at dksX10_see_1 1 rfl rfl)
theorem dX10_see_28 : decode cX10_see 28 = .ok (.goto (-26), 3) := dk_167 255 230 (dk_at dksX10_see_1 4 rfl rfl)
theorem dX10_see_31 : decode cX10_see 31 = .ok (.iconst 1, 1) := dk_4 (dk_at dksX10_see_1 7 rfl rfl)
theorem dX10_see_32 : decode cX10_see 32 = .ok (.istore_n 1, 1) := dk_60 (dk_at dksX10_see_1 8 rfl rfl)
theorem dX10_see_33 : decode cX10_see 33 = .ok (.iload_n 1, 1) := dk_27 (dk_at dksX10_see_1 9 rfl rfl)
theorem dX10_see_34 : decode cX10_see 34 = .ok (.ifCond .eq 123, 3) := dk_153 0 123 (dk_at dksX10_see_1 10 rfl rfl)
theorem dX10_see_37 : decode cX10_see 37 = .ok (.iconst 0, 1) := dk_3 (dk_at dksX10_see_1 13 rfl rfl)
theorem dX10_see_38 : decode cX10_see 38 = .ok (.istore_n 1, 1) := dk_60 (dk_at dksX10_see_1 14 rfl rfl)
theorem dX10_see_39 : decode cX10_see 39 = .ok (.iconst 0, 1) := dk_3 (dk_at dksX10_see_1 15 rfl rfl)
theorem dX10_see_40 : decode cX10_see 40 = .ok (.istore_n 2, 1) := dk_61 (dk_at dksX10_see_1 16 rfl rfl)
theorem dX10_see_41 : decode cX10_see 41 = .ok (.iload_n 2, 1) := dk_28 (dk_at dksX10_see_1 17 rfl rfl)
theorem dX10_see_42 : decode cX10_see 42 = .ok (.aload_n 0, 1) := dk_42 (dk_at dksX10_see_1 18 rfl rfl)
theorem dX10_see_43 : decode cX10_see 43 = .ok (.getfield 3, 3) := dk_180 0 3 (dk_at dksX10_see_1 19 rfl rfl)
theorem dX10_see_46 : decode cX10_see 46 = .ok (.getfield 29, 3) := dk_180 0 29 (dk_at dksX10_see_2 0 rfl rfl)
theorem dX10_see_49 : decode cX10_see 49 = .ok (.invokeinterface 33 1, 5) := by decide +kernel
theorem dX10_see_54 : decode cX10_see 54 = .ok (.if_icmp .ge 100, 3) := dk_162 0 100 (dk_at dksX10_see_2 8 rfl rfl)
theorem dX10_see_57 : decode cX10_see 57 = .ok (.aload_n 0, 1) := dk_42 (dk_at dksX10_see_2 11 rfl rfl)
theorem dX10_see_58 : decode cX10_see 58 = .ok (.getfield 15, 3) := dk_180 0 15 (dk_at dksX10_see_2 12 rfl rfl)
theorem dX10_see_61 : decode cX10_see 61 = .ok (.iload_n 2, 1) := dk_28 (dk_at dksX10_see_2 15 rfl rfl)
theorem dX10_see_62 : decode cX10_see 62 = .ok (.iaload, 1) := dk_46 (dk_at dksX10_see_2 16 rfl rfl)
theorem dX10_see_63 : decode cX10_see 63 = .ok (.ifCond .ne 6, 3) := dk_154 0 6 (dk_at dksX10_see_2 17 rfl rfl)
theorem dX10_see_66 : decode cX10_see 66 = .ok (.goto 82, 3) := dk_167 0 82 (dk_at dksX10_see_2 20 rfl rfl)
theorem dX10_see_69 : decode cX10_see 69 = .ok (.aload_n 0, 1) := dk_42 (dk_at dksX10_see_2 23 rfl rfl)
theorem dX10_see_70 : decode cX10_see 70 = .ok (.getfield 3, 3) := dk_180 0 3 (dk_at dksX10_see_3 0 rfl rfl)
theorem dX10_see_73 : decode cX10_see 73 = .ok (.getfield 29, 3) := dk_180 0 29 (dk_at dksX10_see_3 3 rfl rfl)
theorem dX10_see_76 : decode cX10_see 76 = .ok (.iload_n 2, 1) := dk_28 (dk_at dksX10_see_3 6 rfl rfl)
theorem dX10_see_77 : decode cX10_see 77 = .ok (.invokeinterface 39 2, 5) := by decide +kernel
theorem dX10_see_82 : decode cX10_see 82 = .ok (.checkcast 43, 3) := dk_192 0 43 (dk_at dksX10_see_3 12 rfl rfl)
theorem dX10_see_85 : decode cX10_see 85 = .ok (.astore_n 3, 1) := dk_78 (dk_at dksX10_see_3 15 rfl rfl)
theorem dX10_see_86 : decode cX10_see 86 = .ok (.aload_n 0, 1) := dk_42 (dk_at dksX10_see_3 16 rfl rfl)
theorem dX10_see_87 : decode cX10_see 87 = .ok (.getfield 3, 3) := dk_180 0 3 (dk_at dksX10_see_3 17 rfl rfl)
theorem dX10_see_90 : decode cX10_see 90 = .ok (.getfield 59, 3) := dk_180 0 59 (dk_at dksX10_see_3 20 rfl rfl)
theorem dX10_see_93 : decode cX10_see 93 = .ok (.aload_n 3, 1) := dk_45 (dk_at dksX10_see_3 23 rfl rfl)
theorem dX10_see_94 : decode cX10_see 94 = .ok (.getfield 56, 3) := dk_180 0 56 (dk_at dksX10_see_4 0 rfl rfl)
theorem dX10_see_97 : decode cX10_see 97 = .ok (.aaload, 1) := dk_50 (dk_at dksX10_see_4 3 rfl rfl)
theorem dX10_see_98 : decode cX10_see 98 = .ok (.aload_n 0, 1) := dk_42 (dk_at dksX10_see_4 4 rfl rfl)
theorem dX10_see_99 : decode cX10_see 99 = .ok (.aload_n 3, 1) := dk_45 (dk_at dksX10_see_4 5 rfl rfl)
theorem dX10_see_100 : decode cX10_see 100 = .ok (.getfield 45, 3) := dk_180 0 45 (dk_at dksX10_see_4 6 rfl rfl)
theorem dX10_see_103 : decode cX10_see 103 = .ok (.aload_n 3, 1) := dk_45 (dk_at dksX10_see_4 9 rfl rfl)
theorem dX10_see_104 : decode cX10_see 104 = .ok (.getfield 63, 3) := dk_180 0 63 (dk_at dksX10_see_4 10 rfl rfl)
theorem dX10_see_107 : decode cX10_see 107 = .ok (.aload_n 3, 1) := dk_45 (dk_at dksX10_see_4 13 rfl rfl)
theorem dX10_see_108 : decode cX10_see 108 = .ok (.getfield 66, 3) := dk_180 0 66 (dk_at dksX10_see_4 14 rfl rfl)
theorem dX10_see_111 : decode cX10_see 111 = .ok (.aload_n 3, 1) := dk_45 (dk_at dksX10_see_4 17 rfl rfl)
theorem dX10_see_112 : decode cX10_see 112 = .ok (.getfield 69, 3) := dk_180 0 69 (dk_at dksX10_see_4 18 rfl rfl)
theorem dX10_see_115 : decode cX10_see 115 = .ok (.iconst 0, 1) := dk_3 (dk_at dksX10_see_4 21 rfl rfl)
theorem dX10_see_116 : decode cX10_see 116 = .ok (.invokevirtual 78, 3) := dk_182 0 78 (dk_at dksX10_see_5 0 rfl rfl)
theorem dX10_see_119 : decode cX10_see 119 = .ok (.istore 4, 2) := dk_54 4 (dk_at dksX10_see_5 3 rfl rfl)
theorem dX10_see_121 : decode cX10_see 121 = .ok (.iload_n 1, 1) := dk_27 (dk_at dksX10_see_5 5 rfl rfl)
theorem dX10_see_122 : decode cX10_see 122 = .ok (.iload 4, 2) := dk_21 4 (dk_at dksX10_see_5 6 rfl rfl)
theorem dX10_see_124 : decode cX10_see 124 = .ok (.aload_n 0, 1) := dk_42 (dk_at dksX10_see_5 8 rfl rfl)
theorem dX10_see_125 : decode cX10_see 125 = .ok (.getfield 22, 3) := dk_180 0 22 (dk_at dksX10_see_5 9 rfl rfl)
theorem dX10_see_128 : decode cX10_see 128 = .ok (.iload_n 2, 1) := dk_28 (dk_at dksX10_see_5 12 rfl rfl)
theorem dX10_see_129 : decode cX10_see 129 = .ok (.iaload, 1) := dk_46 (dk_at dksX10_see_5 13 rfl rfl)
theorem dX10_see_130 : decode cX10_see 130 = .ok (.if_icmp .eq 7, 3) := dk_159 0 7 (dk_at dksX10_see_5 14 rfl rfl)
theorem dX10_see_133 : decode cX10_see 133 = .ok (.iconst 1, 1) := dk_4 (dk_at dksX10_see_5 17 rfl rfl)
theorem dX10_see_134 : decode cX10_see 134 = .ok (.goto 4, 3) := dk_167 0 4 (dk_at dksX10_see_5 18 rfl rfl)
theorem dX10_see_137 : decode cX10_see 137 = .ok (.iconst 0, 1) := dk_3 (dk_at dksX10_see_5 21 rfl rfl)
theorem dX10_see_138 : decode cX10_see 138 = .ok (.ior, 1) := dk_128 (dk_at dksX10_see_5 22 rfl rfl)
theorem dX10_see_139 : decode cX10_see 139 = .ok (.istore_n 1, 1) := dk_60 (dk_at dksX10_see_5 23 rfl rfl)
theorem dX10_see_140 : decode cX10_see 140 = .ok (.aload_n 0, 1) := dk_42 (dk_at dksX10_see_6 0 rfl rfl)
theorem dX10_see_141 : decode cX10_see 141 = .ok (.getfield 22, 3) := dk_180 0 22 (dk_at dksX10_see_6 1 rfl rfl)
theorem dX10_see_144 : decode cX10_see 144 = .ok (.iload_n 2, 1) := dk_28 (dk_at dksX10_see_6 4 rfl rfl)
theorem dX10_see_145 : decode cX10_see 145 = .ok (.iload 4, 2) := dk_21 4 (dk_at dksX10_see_6 5 rfl rfl)
theorem dX10_see_147 : decode cX10_see 147 = .ok (.iastore, 1) := dk_79 (dk_at dksX10_see_6 7 rfl rfl)
theorem dX10_see_148 : decode cX10_see 148 = .ok (.iinc 2 1, 3) := dk_132 2 1 (dk_at dksX10_see_6 8 rfl rfl)
theorem dX10_see_151 : decode cX10_see 151 = .ok (.goto (-110), 3) := dk_167 255 146 (dk_at dksX10_see_6 11 rfl rfl)
theorem dX10_see_154 : decode cX10_see 154 = .ok (.goto (-121), 3) := dk_167 255 135 (dk_at dksX10_see_6 14 rfl rfl)
theorem dX10_see_157 : decode cX10_see 157 = .ok (.return_, 1) := dk_177 (dk_at dksX10_see_6 17 rfl rfl)
abbrev cX10_eyes : ByteArray := prog_3_method_7_code
def yX10_eyes : MethodName := ⟨RX10, "eyes", "(IIIZI)I"⟩
def dkwX10_eyes_3 : List UInt8 := [21, 5, 182, 0, 78, 128, 54, 6, 132, 8, 1, 167, 255, 198, 21, 6, 172]
abbrev dktX10_eyes_3 : List UInt8 := dkwX10_eyes_3 ++ []
def dkwX10_eyes_2 : List UInt8 := [182, 0, 73, 158, 0, 29, 21, 6, 42, 180, 0, 3, 180, 0, 59, 21, 8, 50, 42, 27, 28, 29, 21, 4]
abbrev dktX10_eyes_2 : List UInt8 := dkwX10_eyes_2 ++ dktX10_eyes_3
def dkwX10_eyes_1 : List UInt8 := [21, 8, 21, 7, 163, 0, 57, 42, 180, 0, 3, 180, 0, 59, 21, 8, 50, 42, 27, 28, 29, 21, 4]
abbrev dktX10_eyes_1 : List UInt8 := dkwX10_eyes_1 ++ dktX10_eyes_2
def dkwX10_eyes_0 : List UInt8 := [3, 54, 6, 21, 5, 29, 122, 4, 126, 4, 160, 0, 7, 5, 167, 0, 4, 6, 54, 7, 3, 54, 8]
abbrev dktX10_eyes_0 : List UInt8 := dkwX10_eyes_0 ++ dktX10_eyes_1
theorem dksX10_eyes_0 : cX10_eyes.data.toList.drop 0 = dktX10_eyes_0 := by decide +kernel
theorem dksX10_eyes_1 : cX10_eyes.data.toList.drop 23 = dktX10_eyes_1 := dk_seg dksX10_eyes_0 23 rfl rfl
theorem dksX10_eyes_2 : cX10_eyes.data.toList.drop 46 = dktX10_eyes_2 := dk_seg dksX10_eyes_1 23 rfl rfl
theorem dksX10_eyes_3 : cX10_eyes.data.toList.drop 70 = dktX10_eyes_3 := dk_seg dksX10_eyes_2 24 rfl rfl
theorem dX10_eyes_0 : decode cX10_eyes 0 = .ok (.iconst 0, 1) := dk_3 (dk_at dksX10_eyes_0 0 rfl rfl)
theorem dX10_eyes_1 : decode cX10_eyes 1 = .ok (.istore 6, 2) := dk_54 6 (dk_at dksX10_eyes_0 1 rfl rfl)
theorem dX10_eyes_3 : decode cX10_eyes 3 = .ok (.iload 5, 2) := dk_21 5 (dk_at dksX10_eyes_0 3 rfl rfl)
theorem dX10_eyes_5 : decode cX10_eyes 5 = .ok (.iload_n 3, 1) := dk_29 (dk_at dksX10_eyes_0 5 rfl rfl)
theorem dX10_eyes_6 : decode cX10_eyes 6 = .ok (.ishr, 1) := dk_122 (dk_at dksX10_eyes_0 6 rfl rfl)
theorem dX10_eyes_7 : decode cX10_eyes 7 = .ok (.iconst 1, 1) := dk_4 (dk_at dksX10_eyes_0 7 rfl rfl)
theorem dX10_eyes_8 : decode cX10_eyes 8 = .ok (.iand, 1) := dk_126 (dk_at dksX10_eyes_0 8 rfl rfl)
theorem dX10_eyes_9 : decode cX10_eyes 9 = .ok (.iconst 1, 1) := dk_4 (dk_at dksX10_eyes_0 9 rfl rfl)
theorem dX10_eyes_10 : decode cX10_eyes 10 = .ok (.if_icmp .ne 7, 3) := dk_160 0 7 (dk_at dksX10_eyes_0 10 rfl rfl)
theorem dX10_eyes_13 : decode cX10_eyes 13 = .ok (.iconst 2, 1) := dk_5 (dk_at dksX10_eyes_0 13 rfl rfl)
theorem dX10_eyes_14 : decode cX10_eyes 14 = .ok (.goto 4, 3) := dk_167 0 4 (dk_at dksX10_eyes_0 14 rfl rfl)
theorem dX10_eyes_17 : decode cX10_eyes 17 = .ok (.iconst 3, 1) := dk_6 (dk_at dksX10_eyes_0 17 rfl rfl)
theorem dX10_eyes_18 : decode cX10_eyes 18 = .ok (.istore 7, 2) := dk_54 7 (dk_at dksX10_eyes_0 18 rfl rfl)
theorem dX10_eyes_20 : decode cX10_eyes 20 = .ok (.iconst 0, 1) := dk_3 (dk_at dksX10_eyes_0 20 rfl rfl)
theorem dX10_eyes_21 : decode cX10_eyes 21 = .ok (.istore 8, 2) := dk_54 8 (dk_at dksX10_eyes_0 21 rfl rfl)
theorem dX10_eyes_23 : decode cX10_eyes 23 = .ok (.iload 8, 2) := dk_21 8 (dk_at dksX10_eyes_1 0 rfl rfl)
theorem dX10_eyes_25 : decode cX10_eyes 25 = .ok (.iload 7, 2) := dk_21 7 (dk_at dksX10_eyes_1 2 rfl rfl)
theorem dX10_eyes_27 : decode cX10_eyes 27 = .ok (.if_icmp .gt 57, 3) := dk_163 0 57 (dk_at dksX10_eyes_1 4 rfl rfl)
theorem dX10_eyes_30 : decode cX10_eyes 30 = .ok (.aload_n 0, 1) := dk_42 (dk_at dksX10_eyes_1 7 rfl rfl)
theorem dX10_eyes_31 : decode cX10_eyes 31 = .ok (.getfield 3, 3) := dk_180 0 3 (dk_at dksX10_eyes_1 8 rfl rfl)
theorem dX10_eyes_34 : decode cX10_eyes 34 = .ok (.getfield 59, 3) := dk_180 0 59 (dk_at dksX10_eyes_1 11 rfl rfl)
theorem dX10_eyes_37 : decode cX10_eyes 37 = .ok (.iload 8, 2) := dk_21 8 (dk_at dksX10_eyes_1 14 rfl rfl)
theorem dX10_eyes_39 : decode cX10_eyes 39 = .ok (.aaload, 1) := dk_50 (dk_at dksX10_eyes_1 16 rfl rfl)
theorem dX10_eyes_40 : decode cX10_eyes 40 = .ok (.aload_n 0, 1) := dk_42 (dk_at dksX10_eyes_1 17 rfl rfl)
theorem dX10_eyes_41 : decode cX10_eyes 41 = .ok (.iload_n 1, 1) := dk_27 (dk_at dksX10_eyes_1 18 rfl rfl)
theorem dX10_eyes_42 : decode cX10_eyes 42 = .ok (.iload_n 2, 1) := dk_28 (dk_at dksX10_eyes_1 19 rfl rfl)
theorem dX10_eyes_43 : decode cX10_eyes 43 = .ok (.iload_n 3, 1) := dk_29 (dk_at dksX10_eyes_1 20 rfl rfl)
theorem dX10_eyes_44 : decode cX10_eyes 44 = .ok (.iload 4, 2) := dk_21 4 (dk_at dksX10_eyes_1 21 rfl rfl)
theorem dX10_eyes_46 : decode cX10_eyes 46 = .ok (.invokevirtual 73, 3) := dk_182 0 73 (dk_at dksX10_eyes_2 0 rfl rfl)
theorem dX10_eyes_49 : decode cX10_eyes 49 = .ok (.ifCond .le 29, 3) := dk_158 0 29 (dk_at dksX10_eyes_2 3 rfl rfl)
theorem dX10_eyes_52 : decode cX10_eyes 52 = .ok (.iload 6, 2) := dk_21 6 (dk_at dksX10_eyes_2 6 rfl rfl)
theorem dX10_eyes_54 : decode cX10_eyes 54 = .ok (.aload_n 0, 1) := dk_42 (dk_at dksX10_eyes_2 8 rfl rfl)
theorem dX10_eyes_55 : decode cX10_eyes 55 = .ok (.getfield 3, 3) := dk_180 0 3 (dk_at dksX10_eyes_2 9 rfl rfl)
theorem dX10_eyes_58 : decode cX10_eyes 58 = .ok (.getfield 59, 3) := dk_180 0 59 (dk_at dksX10_eyes_2 12 rfl rfl)
theorem dX10_eyes_61 : decode cX10_eyes 61 = .ok (.iload 8, 2) := dk_21 8 (dk_at dksX10_eyes_2 15 rfl rfl)
theorem dX10_eyes_63 : decode cX10_eyes 63 = .ok (.aaload, 1) := dk_50 (dk_at dksX10_eyes_2 17 rfl rfl)
theorem dX10_eyes_64 : decode cX10_eyes 64 = .ok (.aload_n 0, 1) := dk_42 (dk_at dksX10_eyes_2 18 rfl rfl)
theorem dX10_eyes_65 : decode cX10_eyes 65 = .ok (.iload_n 1, 1) := dk_27 (dk_at dksX10_eyes_2 19 rfl rfl)
theorem dX10_eyes_66 : decode cX10_eyes 66 = .ok (.iload_n 2, 1) := dk_28 (dk_at dksX10_eyes_2 20 rfl rfl)
theorem dX10_eyes_67 : decode cX10_eyes 67 = .ok (.iload_n 3, 1) := dk_29 (dk_at dksX10_eyes_2 21 rfl rfl)
theorem dX10_eyes_68 : decode cX10_eyes 68 = .ok (.iload 4, 2) := dk_21 4 (dk_at dksX10_eyes_2 22 rfl rfl)
theorem dX10_eyes_70 : decode cX10_eyes 70 = .ok (.iload 5, 2) := dk_21 5 (dk_at dksX10_eyes_3 0 rfl rfl)
theorem dX10_eyes_72 : decode cX10_eyes 72 = .ok (.invokevirtual 78, 3) := dk_182 0 78 (dk_at dksX10_eyes_3 2 rfl rfl)
theorem dX10_eyes_75 : decode cX10_eyes 75 = .ok (.ior, 1) := dk_128 (dk_at dksX10_eyes_3 5 rfl rfl)
theorem dX10_eyes_76 : decode cX10_eyes 76 = .ok (.istore 6, 2) := dk_54 6 (dk_at dksX10_eyes_3 6 rfl rfl)
theorem dX10_eyes_78 : decode cX10_eyes 78 = .ok (.iinc 8 1, 3) := dk_132 8 1 (dk_at dksX10_eyes_3 8 rfl rfl)
theorem dX10_eyes_81 : decode cX10_eyes 81 = .ok (.goto (-58), 3) := dk_167 255 198 (dk_at dksX10_eyes_3 11 rfl rfl)
theorem dX10_eyes_84 : decode cX10_eyes 84 = .ok (.iload 6, 2) := dk_21 6 (dk_at dksX10_eyes_3 14 rfl rfl)
theorem dX10_eyes_86 : decode cX10_eyes 86 = .ok (.ireturn, 1) := dk_172 (dk_at dksX10_eyes_3 16 rfl rfl)
theorem q112 : (Jvm.Cond.initialized "EndingTown$Day") ∈ lw_all := lw_g (lw_at lw_m1 13 rfl) rfl
theorem q310 : (Jvm.Cond.instantiable "EndingTown$Day" (6 : Nat)) ∈ lw_all := lw_g (lw_at lw_m1 211 rfl) rfl
theorem q312 : (Jvm.Cond.instanceMethod ({ cls := "EndingTown$Day", name := "<init>", desc := "(LEndingTown;)V" } : Jvm.MethodName)) ∈ lw_all := lw_g (lw_at lw_m1 213 rfl) rfl
theorem q313 : (Jvm.Cond.code ({ cls := "EndingTown$Day", name := "<init>", desc := "(LEndingTown;)V" } : Jvm.MethodName) prog_3_method_1_code (2 : Nat) (Option.none : Option Jvm.ClassFile.FieldType)) ∈ lw_all := lw_g (lw_at lw_m1 214 rfl) rfl
theorem q314 : (Jvm.Cond.methodLink "EndingTown$Day" (9 : Nat) ({ cls := "java/lang/Object", name := "<init>", desc := "()V" } : Jvm.MethodName)) ∈ lw_all := lw_g (lw_at lw_m1 215 rfl) rfl
theorem q315 : (Jvm.Cond.fieldLink "EndingTown$Day" (15 : Nat) "EndingTown$Day" "round" "[I") ∈ lw_all := lw_g (lw_at lw_m1 216 rfl) rfl
theorem q318 : (Jvm.Cond.fieldLink "EndingTown$Day" (19 : Nat) "EndingTown$Day" "by" "[I") ∈ lw_all := lw_g (lw_at lw_m1 219 rfl) rfl
theorem q320 : (Jvm.Cond.fieldLink "EndingTown$Day" (22 : Nat) "EndingTown$Day" "eyes" "[I") ∈ lw_all := lw_g (lw_at lw_m1 221 rfl) rfl
theorem q323 : (Jvm.Cond.fieldLink "EndingTown$Day" (25 : Nat) "EndingTown$Day" "isLeft" "[Z") ∈ lw_all := lw_g (lw_at lw_m1 224 rfl) rfl
theorem q325 : (Jvm.Cond.fieldLink "EndingTown$Day" (49 : Nat) "EndingTown$Day" "free" "I") ∈ lw_all := lw_g (lw_at lw_m1 226 rfl) rfl
theorem q327 : (Jvm.Cond.fieldLink "EndingTown$Day" (3 : Nat) "EndingTown$Day" "this$0" "LEndingTown;") ∈ lw_all := lw_g (lw_at lw_m1 228 rfl) rfl
theorem q328 : (Jvm.Cond.laysFinal "EndingTown$Day" "EndingTown$Day" "round" "[I") ∈ lw_all := lw_g (lw_at lw_m1 229 rfl) rfl
theorem q329 : (Jvm.Cond.soleField "EndingTown$Day" "round") ∈ lw_all := lw_g (lw_at lw_m1 230 rfl) rfl
theorem q330 : (Jvm.Cond.laysFinal "EndingTown$Day" "EndingTown$Day" "by" "[I") ∈ lw_all := lw_g (lw_at lw_m1 231 rfl) rfl
theorem q331 : (Jvm.Cond.soleField "EndingTown$Day" "by") ∈ lw_all := lw_g (lw_at lw_m1 232 rfl) rfl
theorem q332 : (Jvm.Cond.laysFinal "EndingTown$Day" "EndingTown$Day" "eyes" "[I") ∈ lw_all := lw_g (lw_at lw_m1 233 rfl) rfl
theorem q333 : (Jvm.Cond.soleField "EndingTown$Day" "eyes") ∈ lw_all := lw_g (lw_at lw_m1 234 rfl) rfl
theorem q334 : (Jvm.Cond.laysFinal "EndingTown$Day" "EndingTown$Day" "isLeft" "[Z") ∈ lw_all := lw_g (lw_at lw_m1 235 rfl) rfl
theorem q335 : (Jvm.Cond.soleField "EndingTown$Day" "isLeft") ∈ lw_all := lw_g (lw_at lw_m1 236 rfl) rfl
theorem q336 : (Jvm.Cond.lays "EndingTown$Day" "EndingTown$Day" "free" "I") ∈ lw_all := lw_g (lw_at lw_m1 237 rfl) rfl
theorem q337 : (Jvm.Cond.soleField "EndingTown$Day" "free") ∈ lw_all := lw_g (lw_at lw_m1 238 rfl) rfl
theorem q338 : (Jvm.Cond.laysFinal "EndingTown$Day" "EndingTown$Day" "this$0" "LEndingTown;") ∈ lw_all := lw_g (lw_at lw_m1 239 rfl) rfl
theorem q339 : (Jvm.Cond.soleField "EndingTown$Day" "this$0") ∈ lw_all := lw_g (lw_at lw_m2 0 rfl) rfl
theorem q340 : (Jvm.Cond.superclass "EndingTown$Day" "java/lang/Object") ∈ lw_all := lw_g (lw_at lw_m2 1 rfl) rfl
theorem q348 : (Jvm.Cond.fieldLinkNest "EndingTown$Day" (29 : Nat) "EndingTown" "said" "Ljava/util/List;" "EndingTown") ∈ lw_tbl := lw_at lw_m2 9 rfl
theorem q352 : (Jvm.Cond.fieldLinkNest "EndingTown$Day" (59 : Nat) "EndingTown" "hows" "[LEndingTown$How;" "EndingTown") ∈ lw_tbl := lw_at lw_m2 13 rfl
theorem q469 : (Jvm.Cond.instanceMethod ({ cls := "EndingTown$Day", name := "begin", desc := "(I)LEndingTown$Day;" } : Jvm.MethodName)) ∈ lw_all := lw_g (lw_at lw_m2 130 rfl) rfl
theorem q470 : (Jvm.Cond.selects "EndingTown$Day" ({ cls := "EndingTown$Day", name := "begin", desc := "(I)LEndingTown$Day;" } : Jvm.MethodName) ({ cls := "EndingTown$Day", name := "begin", desc := "(I)LEndingTown$Day;" } : Jvm.MethodName)) ∈ lw_all := lw_g (lw_at lw_m2 131 rfl) rfl
theorem q471 : (Jvm.Cond.code ({ cls := "EndingTown$Day", name := "begin", desc := "(I)LEndingTown$Day;" } : Jvm.MethodName) prog_3_method_2_code (3 : Nat) (Option.some (Jvm.ClassFile.FieldType.object "EndingTown$Day"))) ∈ lw_all := lw_g (lw_at lw_m2 132 rfl) rfl
theorem q472 : (Jvm.Cond.interfaceEntry "EndingTown$Day" (33 : Nat)) ∈ lw_tbl := lw_at lw_m2 133 rfl
theorem q473 : (Jvm.Cond.methodLink "EndingTown$Day" (33 : Nat) ({ cls := "java/util/List", name := "size", desc := "()I" } : Jvm.MethodName)) ∈ lw_all := lw_g (lw_at lw_m2 134 rfl) rfl
theorem q474 : (Jvm.Cond.interfaceEntry "EndingTown$Day" (39 : Nat)) ∈ lw_tbl := lw_at lw_m2 135 rfl
theorem q475 : (Jvm.Cond.methodLink "EndingTown$Day" (39 : Nat) ({ cls := "java/util/List", name := "get", desc := "(I)Ljava/lang/Object;" } : Jvm.MethodName)) ∈ lw_all := lw_g (lw_at lw_m2 136 rfl) rfl
theorem q487 : (Jvm.Cond.classLink "EndingTown$Day" (43 : Nat) "EndingTown$Saying") ∈ lw_all := lw_g (lw_at lw_m2 148 rfl) rfl
theorem q489 : (Jvm.Cond.instanceMethod ({ cls := "EndingTown$Day", name := "tell", desc := "()LEndingTown$Day;" } : Jvm.MethodName)) ∈ lw_all := lw_g (lw_at lw_m2 150 rfl) rfl
theorem q490 : (Jvm.Cond.selects "EndingTown$Day" ({ cls := "EndingTown$Day", name := "tell", desc := "()LEndingTown$Day;" } : Jvm.MethodName) ({ cls := "EndingTown$Day", name := "tell", desc := "()LEndingTown$Day;" } : Jvm.MethodName)) ∈ lw_all := lw_g (lw_at lw_m2 151 rfl) rfl
theorem q491 : (Jvm.Cond.code ({ cls := "EndingTown$Day", name := "tell", desc := "()LEndingTown$Day;" } : Jvm.MethodName) prog_3_method_4_code (4 : Nat) (Option.some (Jvm.ClassFile.FieldType.object "EndingTown$Day"))) ∈ lw_all := lw_g (lw_at lw_m2 152 rfl) rfl
theorem q492 : (Jvm.Cond.methodLink "EndingTown$Day" (52 : Nat) ({ cls := "EndingTown$Day", name := "attempt", desc := "(LEndingTown$Saying;II)Z" } : Jvm.MethodName)) ∈ lw_all := lw_g (lw_at lw_m2 153 rfl) rfl
theorem q493 : (Jvm.Cond.privateMethod ({ cls := "EndingTown$Day", name := "attempt", desc := "(LEndingTown$Saying;II)Z" } : Jvm.MethodName)) ∈ lw_tbl := lw_at lw_m2 154 rfl
theorem q494 : (Jvm.Cond.instanceMethod ({ cls := "EndingTown$Day", name := "attempt", desc := "(LEndingTown$Saying;II)Z" } : Jvm.MethodName)) ∈ lw_all := lw_g (lw_at lw_m2 155 rfl) rfl
theorem q495 : (Jvm.Cond.code ({ cls := "EndingTown$Day", name := "attempt", desc := "(LEndingTown$Saying;II)Z" } : Jvm.MethodName) prog_3_method_5_code (8 : Nat) (Option.some Jvm.ClassFile.FieldType.boolean)) ∈ lw_all := lw_g (lw_at lw_m2 156 rfl) rfl
theorem q496 : (Jvm.Cond.methodLink "EndingTown$Day" (73 : Nat) ({ cls := "EndingTown$How", name := "round", desc := "(LEndingTown$Day;IIIZ)I" } : Jvm.MethodName)) ∈ lw_all := lw_g (lw_at lw_m2 157 rfl) rfl
theorem q532 : (Jvm.Cond.instanceMethod ({ cls := "EndingTown$Day", name := "tells", desc := "(I)Z" } : Jvm.MethodName)) ∈ lw_all := lw_g (lw_at lw_m2 193 rfl) rfl
theorem q533 : (Jvm.Cond.selects "EndingTown$Day" ({ cls := "EndingTown$Day", name := "tells", desc := "(I)Z" } : Jvm.MethodName) ({ cls := "EndingTown$Day", name := "tells", desc := "(I)Z" } : Jvm.MethodName)) ∈ lw_all := lw_g (lw_at lw_m2 194 rfl) rfl
theorem q534 : (Jvm.Cond.code ({ cls := "EndingTown$Day", name := "tells", desc := "(I)Z" } : Jvm.MethodName) prog_3_method_3_code (2 : Nat) (Option.some Jvm.ClassFile.FieldType.boolean)) ∈ lw_all := lw_g (lw_at lw_m2 195 rfl) rfl
theorem q588 : (Jvm.Cond.selects "EndingTown$Day" ({ cls := "java/lang/Object", name := "getClass", desc := "()Ljava/lang/Class;" } : Jvm.MethodName) ({ cls := "java/lang/Object", name := "getClass", desc := "()Ljava/lang/Class;" } : Jvm.MethodName)) ∈ lw_all := lw_g (lw_at lw_m3 9 rfl) rfl
theorem q1180 : (Jvm.Cond.fieldLinkNest "EndingTown$Day" (45 : Nat) "EndingTown$Saying" "person" "I" "EndingTown") ∈ lw_tbl := lw_at lw_m5 121 rfl
theorem q1184 : (Jvm.Cond.fieldLinkNest "EndingTown$Day" (63 : Nat) "EndingTown$Saying" "hour" "I" "EndingTown") ∈ lw_tbl := lw_at lw_m5 125 rfl
theorem q1188 : (Jvm.Cond.fieldLinkNest "EndingTown$Day" (66 : Nat) "EndingTown$Saying" "thing" "I" "EndingTown") ∈ lw_tbl := lw_at lw_m5 129 rfl
theorem q1191 : (Jvm.Cond.fieldLinkNest "EndingTown$Day" (56 : Nat) "EndingTown$Saying" "how" "I" "EndingTown") ∈ lw_tbl := lw_at lw_m5 132 rfl
theorem q1195 : (Jvm.Cond.fieldLinkNest "EndingTown$Day" (69 : Nat) "EndingTown$Saying" "not" "Z" "EndingTown") ∈ lw_tbl := lw_at lw_m5 136 rfl
theorem q1244 : (Jvm.Cond.instanceMethod ({ cls := "EndingTown$Day", name := "see", desc := "()V" } : Jvm.MethodName)) ∈ lw_all := lw_g (lw_at lw_m5 185 rfl) rfl
theorem q1245 : (Jvm.Cond.selects "EndingTown$Day" ({ cls := "EndingTown$Day", name := "see", desc := "()V" } : Jvm.MethodName) ({ cls := "EndingTown$Day", name := "see", desc := "()V" } : Jvm.MethodName)) ∈ lw_all := lw_g (lw_at lw_m5 186 rfl) rfl
theorem q1246 : (Jvm.Cond.code ({ cls := "EndingTown$Day", name := "see", desc := "()V" } : Jvm.MethodName) prog_3_method_6_code (5 : Nat) (Option.none : Option Jvm.ClassFile.FieldType)) ∈ lw_all := lw_g (lw_at lw_m5 187 rfl) rfl
theorem q1247 : (Jvm.Cond.methodLink "EndingTown$Day" (78 : Nat) ({ cls := "EndingTown$How", name := "eyes", desc := "(LEndingTown$Day;IIIZI)I" } : Jvm.MethodName)) ∈ lw_all := lw_g (lw_at lw_m5 188 rfl) rfl
theorem q1264 : (Jvm.Cond.instanceMethod ({ cls := "EndingTown$Day", name := "eyes", desc := "(IIIZI)I" } : Jvm.MethodName)) ∈ lw_all := lw_g (lw_at lw_m5 205 rfl) rfl
theorem q1265 : (Jvm.Cond.selects "EndingTown$Day" ({ cls := "EndingTown$Day", name := "eyes", desc := "(IIIZI)I" } : Jvm.MethodName) ({ cls := "EndingTown$Day", name := "eyes", desc := "(IIIZI)I" } : Jvm.MethodName)) ∈ lw_all := lw_g (lw_at lw_m5 206 rfl) rfl
theorem q1266 : (Jvm.Cond.code ({ cls := "EndingTown$Day", name := "eyes", desc := "(IIIZI)I" } : Jvm.MethodName) prog_3_method_7_code (9 : Nat) (Option.some Jvm.ClassFile.FieldType.int)) ∈ lw_all := lw_g (lw_at lw_m5 207 rfl) rfl
theorem q1934 : (Jvm.Cond.castable "EndingTown$Day" "java/lang/Object") ∈ lw_tbl := lw_at lw_m8 155 rfl
theorem in_X10 : ∀ w ∈ wsX100, w ∈ lw_all := lw_in wsX100 [328, 330, 332, 334, 336, 338] (by decide +kernel) (by decide +kernel)
/-! EndingTown$Wrong -/
set_option maxRecDepth 100000
def RX13 : String := "EndingTown$Wrong"
def TX13 : u_T := fun k => match k with
  | 0 => ("java/lang/Throwable", "cause", "Ljava/lang/Throwable;", false)
  | 1 => ("java/lang/Throwable", "stackTrace", "[Ljava/lang/StackTraceElement;", false)
  | 2 => ("java/lang/Throwable", "suppressedExceptions", "Ljava/util/List;", false)
  | 3 => ("java/lang/Throwable", "detailMessage", "Ljava/lang/String;", false)
  | 4 => ("java/lang/Throwable", "backtrace", "Ljava/lang/Object;", false)
  | 5 => ("java/lang/Throwable", "depth", "I", false)
  | _ => ("EndingTown$Wrong", "kind", "I", true)
def tyX13 : Nat → FieldType := fun k => match k with
  | 0 => .object "java/lang/Throwable"
  | 1 => .array (.object "java/lang/StackTraceElement")
  | 2 => .object "java/util/List"
  | 3 => .object "java/lang/String"
  | 4 => .object "java/lang/Object"
  | 5 => .int
  | _ => .int
abbrev wsX130 : List Cond := u_ws RX13 TX13 7
theorem nmX13 : ∀ a, a < 7 → ∀ b, b < 7 → a ≠ b → (TX13 a).2.1 ≠ (TX13 b).2.1 := by decide +kernel
theorem tyX13_ok : ∀ k, k < 7 → parseFieldDescriptor (TX13 k).2.2.1 = some (tyX13 k) := by decide +kernel
abbrev cX13_init : ByteArray := prog_17_method_1_code
def yX13_init : MethodName := ⟨RX13, "<init>", "(I)V"⟩
def dkwX13_init_0 : List UInt8 := [42, 1, 1, 3, 3, 183, 0, 1, 42, 27, 181, 0, 7, 177]
abbrev dktX13_init_0 : List UInt8 := dkwX13_init_0 ++ []
theorem dksX13_init_0 : cX13_init.data.toList.drop 0 = dktX13_init_0 := by decide +kernel
theorem dX13_init_0 : decode cX13_init 0 = .ok (.aload_n 0, 1) := dk_42 (dk_at dksX13_init_0 0 rfl rfl)
theorem dX13_init_1 : decode cX13_init 1 = .ok (.aconst_null, 1) := dk_1 (dk_at dksX13_init_0 1 rfl rfl)
theorem dX13_init_2 : decode cX13_init 2 = .ok (.aconst_null, 1) := dk_1 (dk_at dksX13_init_0 2 rfl rfl)
theorem dX13_init_3 : decode cX13_init 3 = .ok (.iconst 0, 1) := dk_3 (dk_at dksX13_init_0 3 rfl rfl)
theorem dX13_init_4 : decode cX13_init 4 = .ok (.iconst 0, 1) := dk_3 (dk_at dksX13_init_0 4 rfl rfl)
theorem dX13_init_5 : decode cX13_init 5 = .ok (.invokespecial 1, 3) := dk_183 0 1 (dk_at dksX13_init_0 5 rfl rfl)
theorem dX13_init_8 : decode cX13_init 8 = .ok (.aload_n 0, 1) := dk_42 (dk_at dksX13_init_0 8 rfl rfl)
theorem dX13_init_9 : decode cX13_init 9 = .ok (.iload_n 1, 1) := dk_27 (dk_at dksX13_init_0 9 rfl rfl)
theorem dX13_init_10 : decode cX13_init 10 = .ok (.putfield 7, 3) := dk_181 0 7 (dk_at dksX13_init_0 10 rfl rfl)
theorem dX13_init_13 : decode cX13_init 13 = .ok (.return_, 1) := dk_177 (dk_at dksX13_init_0 13 rfl rfl)
theorem q124 : (Jvm.Cond.initialized "EndingTown$Wrong") ∈ lw_all := lw_g (lw_at lw_m1 25 rfl) rfl
theorem q600 : (Jvm.Cond.selects "EndingTown$Wrong" ({ cls := "java/lang/Object", name := "getClass", desc := "()Ljava/lang/Class;" } : Jvm.MethodName) ({ cls := "java/lang/Object", name := "getClass", desc := "()Ljava/lang/Class;" } : Jvm.MethodName)) ∈ lw_all := lw_g (lw_at lw_m3 21 rfl) rfl
theorem q676 : (Jvm.Cond.selects "EndingTown$Wrong" ({ cls := "java/lang/Throwable", name := "fillInStackTrace", desc := "()Ljava/lang/Throwable;" } : Jvm.MethodName) ({ cls := "java/lang/Throwable", name := "fillInStackTrace", desc := "()Ljava/lang/Throwable;" } : Jvm.MethodName)) ∈ lw_all := lw_g (lw_at lw_m3 97 rfl) rfl
theorem q835 : (Jvm.Cond.instantiable "EndingTown$Wrong" (7 : Nat)) ∈ lw_all := lw_g (lw_at lw_m4 16 rfl) rfl
theorem q836 : (Jvm.Cond.castable "EndingTown$Wrong" "EndingTown$Wrong") ∈ lw_tbl := lw_at lw_m4 17 rfl
theorem q837 : (Jvm.Cond.selects "EndingTown$Wrong" ({ cls := "java/lang/Throwable", name := "fillInStackTrace", desc := "(I)Ljava/lang/Throwable;" } : Jvm.MethodName) ({ cls := "java/lang/Throwable", name := "fillInStackTrace", desc := "(I)Ljava/lang/Throwable;" } : Jvm.MethodName)) ∈ lw_all := lw_g (lw_at lw_m4 18 rfl) rfl
theorem q838 : (Jvm.Cond.lays "EndingTown$Wrong" "java/lang/Throwable" "cause" "Ljava/lang/Throwable;") ∈ lw_all := lw_g (lw_at lw_m4 19 rfl) rfl
theorem q839 : (Jvm.Cond.lays "EndingTown$Wrong" "java/lang/Throwable" "stackTrace" "[Ljava/lang/StackTraceElement;") ∈ lw_all := lw_g (lw_at lw_m4 20 rfl) rfl
theorem q840 : (Jvm.Cond.lays "EndingTown$Wrong" "java/lang/Throwable" "suppressedExceptions" "Ljava/util/List;") ∈ lw_all := lw_g (lw_at lw_m4 21 rfl) rfl
theorem q841 : (Jvm.Cond.lays "EndingTown$Wrong" "java/lang/Throwable" "detailMessage" "Ljava/lang/String;") ∈ lw_all := lw_g (lw_at lw_m4 22 rfl) rfl
theorem q842 : (Jvm.Cond.lays "EndingTown$Wrong" "java/lang/Throwable" "backtrace" "Ljava/lang/Object;") ∈ lw_all := lw_g (lw_at lw_m4 23 rfl) rfl
theorem q844 : (Jvm.Cond.instanceMethod ({ cls := "EndingTown$Wrong", name := "<init>", desc := "(I)V" } : Jvm.MethodName)) ∈ lw_all := lw_g (lw_at lw_m4 25 rfl) rfl
theorem q845 : (Jvm.Cond.code ({ cls := "EndingTown$Wrong", name := "<init>", desc := "(I)V" } : Jvm.MethodName) prog_17_method_1_code (2 : Nat) (Option.none : Option Jvm.ClassFile.FieldType)) ∈ lw_all := lw_g (lw_at lw_m4 26 rfl) rfl
theorem q846 : (Jvm.Cond.methodLink "EndingTown$Wrong" (1 : Nat) ({ cls := "java/lang/Exception", name := "<init>", desc := "(Ljava/lang/String;Ljava/lang/Throwable;ZZ)V" } : Jvm.MethodName)) ∈ lw_all := lw_g (lw_at lw_m4 27 rfl) rfl
theorem q852 : (Jvm.Cond.fieldLink "EndingTown$Wrong" (7 : Nat) "EndingTown$Wrong" "kind" "I") ∈ lw_all := lw_g (lw_at lw_m4 33 rfl) rfl
theorem q854 : (Jvm.Cond.laysFinal "EndingTown$Wrong" "EndingTown$Wrong" "kind" "I") ∈ lw_all := lw_g (lw_at lw_m4 35 rfl) rfl
theorem q855 : (Jvm.Cond.soleField "EndingTown$Wrong" "kind") ∈ lw_all := lw_g (lw_at lw_m4 36 rfl) rfl
theorem q856 : (Jvm.Cond.lays "EndingTown$Wrong" "java/lang/Throwable" "depth" "I") ∈ lw_all := lw_g (lw_at lw_m4 37 rfl) rfl
theorem q857 : (Jvm.Cond.superclass "EndingTown$Wrong" "java/lang/Exception") ∈ lw_all := lw_g (lw_at lw_m4 38 rfl) rfl
theorem q1938 : (Jvm.Cond.castable "EndingTown$Wrong" "java/lang/Object") ∈ lw_tbl := lw_at lw_m8 159 rfl
theorem in_X13 : ∀ w ∈ wsX130, w ∈ lw_all := lw_in wsX130 [838, 839, 840, 841, 842, 856, 854] (by decide +kernel) (by decide +kernel)
/-! EndingTown$Thing -/
set_option maxRecDepth 100000
def RX14 : String := "EndingTown$Thing"
def TX14 : u_T := fun k => match k with
  | 0 => ("EndingTown$Thing", "stem", "I", false)
  | 1 => ("EndingTown$Thing", "place", "I", false)
  | 2 => ("EndingTown$Thing", "hour", "I", false)
  | 3 => ("EndingTown$Thing", "loud", "Z", false)
  | _ => ("EndingTown$Thing", "never", "Z", false)
def tyX14 : Nat → FieldType := fun k => match k with
  | 0 => .int
  | 1 => .int
  | 2 => .int
  | 3 => .boolean
  | _ => .boolean
abbrev wsX140 : List Cond := u_ws RX14 TX14 5
theorem nmX14 : ∀ a, a < 5 → ∀ b, b < 5 → a ≠ b → (TX14 a).2.1 ≠ (TX14 b).2.1 := by decide +kernel
theorem tyX14_ok : ∀ k, k < 5 → parseFieldDescriptor (TX14 k).2.2.1 = some (tyX14 k) := by decide +kernel
abbrev cX14_init : ByteArray := prog_13_method_1_code
def yX14_init : MethodName := ⟨RX14, "<init>", "()V"⟩
theorem dX14_init_0 : decode cX14_init 0 = .ok (.aload_n 0, 1) := by decide +kernel
theorem dX14_init_1 : decode cX14_init 1 = .ok (.invokespecial 1, 3) := by decide +kernel
theorem dX14_init_4 : decode cX14_init 4 = .ok (.return_, 1) := by decide +kernel
theorem q125 : (Jvm.Cond.initialized "EndingTown$Thing") ∈ lw_all := lw_g (lw_at lw_m1 26 rfl) rfl
theorem q596 : (Jvm.Cond.selects "EndingTown$Thing" ({ cls := "java/lang/Object", name := "getClass", desc := "()Ljava/lang/Class;" } : Jvm.MethodName) ({ cls := "java/lang/Object", name := "getClass", desc := "()Ljava/lang/Class;" } : Jvm.MethodName)) ∈ lw_all := lw_g (lw_at lw_m3 17 rfl) rfl
theorem q892 : (Jvm.Cond.instantiable "EndingTown$Thing" (5 : Nat)) ∈ lw_all := lw_g (lw_at lw_m4 73 rfl) rfl
theorem q894 : (Jvm.Cond.instanceMethod ({ cls := "EndingTown$Thing", name := "<init>", desc := "()V" } : Jvm.MethodName)) ∈ lw_all := lw_g (lw_at lw_m4 75 rfl) rfl
theorem q895 : (Jvm.Cond.code ({ cls := "EndingTown$Thing", name := "<init>", desc := "()V" } : Jvm.MethodName) prog_13_method_1_code (1 : Nat) (Option.none : Option Jvm.ClassFile.FieldType)) ∈ lw_all := lw_g (lw_at lw_m4 76 rfl) rfl
theorem q896 : (Jvm.Cond.methodLink "EndingTown$Thing" (1 : Nat) ({ cls := "java/lang/Object", name := "<init>", desc := "()V" } : Jvm.MethodName)) ∈ lw_all := lw_g (lw_at lw_m4 77 rfl) rfl
theorem q915 : (Jvm.Cond.lays "EndingTown$Thing" "EndingTown$Thing" "stem" "I") ∈ lw_all := lw_g (lw_at lw_m4 96 rfl) rfl
theorem q916 : (Jvm.Cond.soleField "EndingTown$Thing" "stem") ∈ lw_all := lw_g (lw_at lw_m4 97 rfl) rfl
theorem q917 : (Jvm.Cond.lays "EndingTown$Thing" "EndingTown$Thing" "place" "I") ∈ lw_all := lw_g (lw_at lw_m4 98 rfl) rfl
theorem q918 : (Jvm.Cond.soleField "EndingTown$Thing" "place") ∈ lw_all := lw_g (lw_at lw_m4 99 rfl) rfl
theorem q919 : (Jvm.Cond.lays "EndingTown$Thing" "EndingTown$Thing" "hour" "I") ∈ lw_all := lw_g (lw_at lw_m4 100 rfl) rfl
theorem q920 : (Jvm.Cond.soleField "EndingTown$Thing" "hour") ∈ lw_all := lw_g (lw_at lw_m4 101 rfl) rfl
theorem q921 : (Jvm.Cond.lays "EndingTown$Thing" "EndingTown$Thing" "loud" "Z") ∈ lw_all := lw_g (lw_at lw_m4 102 rfl) rfl
theorem q922 : (Jvm.Cond.soleField "EndingTown$Thing" "loud") ∈ lw_all := lw_g (lw_at lw_m4 103 rfl) rfl
theorem q923 : (Jvm.Cond.lays "EndingTown$Thing" "EndingTown$Thing" "never" "Z") ∈ lw_all := lw_g (lw_at lw_m4 104 rfl) rfl
theorem q924 : (Jvm.Cond.soleField "EndingTown$Thing" "never") ∈ lw_all := lw_g (lw_at lw_m4 105 rfl) rfl
theorem q925 : (Jvm.Cond.superclass "EndingTown$Thing" "java/lang/Object") ∈ lw_all := lw_g (lw_at lw_m4 106 rfl) rfl
theorem q1939 : (Jvm.Cond.castable "EndingTown$Thing" "java/lang/Object") ∈ lw_tbl := lw_at lw_m8 160 rfl
theorem in_X14 : ∀ w ∈ wsX140, w ∈ lw_all := lw_in wsX140 [915, 917, 919, 921, 923] (by decide +kernel) (by decide +kernel)
/-! EndingTown$Rule -/
set_option maxRecDepth 100000
def RX15 : String := "EndingTown$Rule"
def TX15 : u_T := fun k => match k with
  | 0 => ("EndingTown$Rule", "from", "[I", true)
  | 1 => ("EndingTown$Rule", "thing", "I", false)
  | _ => ("EndingTown$Rule", "many", "I", false)
def tyX15 : Nat → FieldType := fun k => match k with
  | 0 => .array .int
  | 1 => .int
  | _ => .int
abbrev wsX150 : List Cond := u_ws RX15 TX15 3
theorem nmX15 : ∀ a, a < 3 → ∀ b, b < 3 → a ≠ b → (TX15 a).2.1 ≠ (TX15 b).2.1 := by decide +kernel
theorem tyX15_ok : ∀ k, k < 3 → parseFieldDescriptor (TX15 k).2.2.1 = some (tyX15 k) := by decide +kernel
abbrev cX15_init : ByteArray := prog_10_method_1_code
def yX15_init : MethodName := ⟨RX15, "<init>", "()V"⟩
def dkwX15_init_0 : List UInt8 := [42, 183, 0, 3, 42, 6, 188, 10, 181, 0, 9, 177]
abbrev dktX15_init_0 : List UInt8 := dkwX15_init_0 ++ []
theorem dksX15_init_0 : cX15_init.data.toList.drop 0 = dktX15_init_0 := by decide +kernel
theorem dX15_init_0 : decode cX15_init 0 = .ok (.aload_n 0, 1) := dk_42 (dk_at dksX15_init_0 0 rfl rfl)
theorem dX15_init_1 : decode cX15_init 1 = .ok (.invokespecial 3, 3) := dk_183 0 3 (dk_at dksX15_init_0 1 rfl rfl)
theorem dX15_init_4 : decode cX15_init 4 = .ok (.aload_n 0, 1) := dk_42 (dk_at dksX15_init_0 4 rfl rfl)
theorem dX15_init_5 : decode cX15_init 5 = .ok (.iconst 3, 1) := dk_6 (dk_at dksX15_init_0 5 rfl rfl)
theorem dX15_init_6 : decode cX15_init 6 = .ok (.newarray .int, 2) := dk_188_10 (dk_at dksX15_init_0 6 rfl rfl)
theorem dX15_init_8 : decode cX15_init 8 = .ok (.putfield 9, 3) := dk_181 0 9 (dk_at dksX15_init_0 8 rfl rfl)
theorem dX15_init_11 : decode cX15_init 11 = .ok (.return_, 1) := dk_177 (dk_at dksX15_init_0 11 rfl rfl)
abbrev cX15_has : ByteArray := prog_10_method_2_code
def yX15_has : MethodName := ⟨RX15, "has", "(I)Z"⟩
def dkwX15_has_1 : List UInt8 := [132, 2, 1, 167, 255, 233, 3, 172]
abbrev dktX15_has_1 : List UInt8 := dkwX15_has_1 ++ []
def dkwX15_has_0 : List UInt8 := [3, 61, 28, 42, 180, 0, 15, 162, 0, 21, 42, 180, 0, 9, 28, 46, 27, 160, 0, 5, 4, 172]
abbrev dktX15_has_0 : List UInt8 := dkwX15_has_0 ++ dktX15_has_1
theorem dksX15_has_0 : cX15_has.data.toList.drop 0 = dktX15_has_0 := by decide +kernel
theorem dksX15_has_1 : cX15_has.data.toList.drop 22 = dktX15_has_1 := dk_seg dksX15_has_0 22 rfl rfl
theorem dX15_has_0 : decode cX15_has 0 = .ok (.iconst 0, 1) := dk_3 (dk_at dksX15_has_0 0 rfl rfl)
theorem dX15_has_1 : decode cX15_has 1 = .ok (.istore_n 2, 1) := dk_61 (dk_at dksX15_has_0 1 rfl rfl)
theorem dX15_has_2 : decode cX15_has 2 = .ok (.iload_n 2, 1) := dk_28 (dk_at dksX15_has_0 2 rfl rfl)
theorem dX15_has_3 : decode cX15_has 3 = .ok (.aload_n 0, 1) := dk_42 (dk_at dksX15_has_0 3 rfl rfl)
theorem dX15_has_4 : decode cX15_has 4 = .ok (.getfield 15, 3) := dk_180 0 15 (dk_at dksX15_has_0 4 rfl rfl)
theorem dX15_has_7 : decode cX15_has 7 = .ok (.if_icmp .ge 21, 3) := dk_162 0 21 (dk_at dksX15_has_0 7 rfl rfl)
theorem dX15_has_10 : decode cX15_has 10 = .ok (.aload_n 0, 1) := dk_42 (dk_at dksX15_has_0 10 rfl rfl)
theorem dX15_has_11 : decode cX15_has 11 = .ok (.getfield 9, 3) := dk_180 0 9 (dk_at dksX15_has_0 11 rfl rfl)
theorem dX15_has_14 : decode cX15_has 14 = .ok (.iload_n 2, 1) := dk_28 (dk_at dksX15_has_0 14 rfl rfl)
theorem dX15_has_15 : decode cX15_has 15 = .ok (.iaload, 1) := dk_46 (dk_at dksX15_has_0 15 rfl rfl)
theorem dX15_has_16 : decode cX15_has 16 = .ok (.iload_n 1, 1) := dk_27 (dk_at dksX15_has_0 16 rfl rfl)
theorem dX15_has_17 : decode cX15_has 17 = .ok (.if_icmp .ne 5, 3) := dk_160 0 5 (dk_at dksX15_has_0 17 rfl rfl)
theorem dX15_has_20 : decode cX15_has 20 = .ok (.iconst 1, 1) := dk_4 (dk_at dksX15_has_0 20 rfl rfl)
theorem dX15_has_21 : decode cX15_has 21 = .ok (.ireturn, 1) := dk_172 (dk_at dksX15_has_0 21 rfl rfl)
theorem dX15_has_22 : decode cX15_has 22 = .ok (.iinc 2 1, 3) := dk_132 2 1 (dk_at dksX15_has_1 0 rfl rfl)
theorem dX15_has_25 : decode cX15_has 25 = .ok (.goto (-23), 3) := dk_167 255 233 (dk_at dksX15_has_1 3 rfl rfl)
theorem dX15_has_28 : decode cX15_has 28 = .ok (.iconst 0, 1) := dk_3 (dk_at dksX15_has_1 6 rfl rfl)
theorem dX15_has_29 : decode cX15_has 29 = .ok (.ireturn, 1) := dk_172 (dk_at dksX15_has_1 7 rfl rfl)
theorem q130 : (Jvm.Cond.initialized "EndingTown$Rule") ∈ lw_all := lw_g (lw_at lw_m1 31 rfl) rfl
theorem q593 : (Jvm.Cond.selects "EndingTown$Rule" ({ cls := "java/lang/Object", name := "getClass", desc := "()Ljava/lang/Class;" } : Jvm.MethodName) ({ cls := "java/lang/Object", name := "getClass", desc := "()Ljava/lang/Class;" } : Jvm.MethodName)) ∈ lw_all := lw_g (lw_at lw_m3 14 rfl) rfl
theorem q974 : (Jvm.Cond.instantiable "EndingTown$Rule" (3 : Nat)) ∈ lw_all := lw_g (lw_at lw_m4 155 rfl) rfl
theorem q976 : (Jvm.Cond.instanceMethod ({ cls := "EndingTown$Rule", name := "<init>", desc := "()V" } : Jvm.MethodName)) ∈ lw_all := lw_g (lw_at lw_m4 157 rfl) rfl
theorem q977 : (Jvm.Cond.code ({ cls := "EndingTown$Rule", name := "<init>", desc := "()V" } : Jvm.MethodName) prog_10_method_1_code (1 : Nat) (Option.none : Option Jvm.ClassFile.FieldType)) ∈ lw_all := lw_g (lw_at lw_m4 158 rfl) rfl
theorem q978 : (Jvm.Cond.methodLink "EndingTown$Rule" (3 : Nat) ({ cls := "java/lang/Object", name := "<init>", desc := "()V" } : Jvm.MethodName)) ∈ lw_all := lw_g (lw_at lw_m4 159 rfl) rfl
theorem q979 : (Jvm.Cond.fieldLink "EndingTown$Rule" (9 : Nat) "EndingTown$Rule" "from" "[I") ∈ lw_all := lw_g (lw_at lw_m4 160 rfl) rfl
theorem q984 : (Jvm.Cond.fieldLink "EndingTown$Rule" (15 : Nat) "EndingTown$Rule" "many" "I") ∈ lw_all := lw_g (lw_at lw_m4 165 rfl) rfl
theorem q987 : (Jvm.Cond.laysFinal "EndingTown$Rule" "EndingTown$Rule" "from" "[I") ∈ lw_all := lw_g (lw_at lw_m4 168 rfl) rfl
theorem q988 : (Jvm.Cond.soleField "EndingTown$Rule" "from") ∈ lw_all := lw_g (lw_at lw_m4 169 rfl) rfl
theorem q989 : (Jvm.Cond.lays "EndingTown$Rule" "EndingTown$Rule" "thing" "I") ∈ lw_all := lw_g (lw_at lw_m4 170 rfl) rfl
theorem q990 : (Jvm.Cond.soleField "EndingTown$Rule" "thing") ∈ lw_all := lw_g (lw_at lw_m4 171 rfl) rfl
theorem q991 : (Jvm.Cond.lays "EndingTown$Rule" "EndingTown$Rule" "many" "I") ∈ lw_all := lw_g (lw_at lw_m4 172 rfl) rfl
theorem q992 : (Jvm.Cond.soleField "EndingTown$Rule" "many") ∈ lw_all := lw_g (lw_at lw_m4 173 rfl) rfl
theorem q993 : (Jvm.Cond.superclass "EndingTown$Rule" "java/lang/Object") ∈ lw_all := lw_g (lw_at lw_m4 174 rfl) rfl
theorem q995 : (Jvm.Cond.instanceMethod ({ cls := "EndingTown$Rule", name := "has", desc := "(I)Z" } : Jvm.MethodName)) ∈ lw_all := lw_g (lw_at lw_m4 176 rfl) rfl
theorem q996 : (Jvm.Cond.selects "EndingTown$Rule" ({ cls := "EndingTown$Rule", name := "has", desc := "(I)Z" } : Jvm.MethodName) ({ cls := "EndingTown$Rule", name := "has", desc := "(I)Z" } : Jvm.MethodName)) ∈ lw_all := lw_g (lw_at lw_m4 177 rfl) rfl
theorem q997 : (Jvm.Cond.code ({ cls := "EndingTown$Rule", name := "has", desc := "(I)Z" } : Jvm.MethodName) prog_10_method_2_code (3 : Nat) (Option.some Jvm.ClassFile.FieldType.boolean)) ∈ lw_all := lw_g (lw_at lw_m4 178 rfl) rfl
theorem q1940 : (Jvm.Cond.castable "EndingTown$Rule" "java/lang/Object") ∈ lw_tbl := lw_at lw_m8 161 rfl
theorem in_X15 : ∀ w ∈ wsX150, w ∈ lw_all := lw_in wsX150 [987, 989, 991] (by decide +kernel) (by decide +kernel)
/-! EndingTown$Letters -/
set_option maxRecDepth 100000
def RX16 : String := "EndingTown$Letters"
def TX16 : u_T := fun k => match k with
  | _ => ("EndingTown$Letters", "of", "[B", true)
def tyX16 : Nat → FieldType := fun k => match k with
  | _ => .array .byte
abbrev wsX160 : List Cond := u_ws RX16 TX16 1
theorem nmX16 : ∀ a, a < 1 → ∀ b, b < 1 → a ≠ b → (TX16 a).2.1 ≠ (TX16 b).2.1 := by decide +kernel
theorem tyX16_ok : ∀ k, k < 1 → parseFieldDescriptor (TX16 k).2.2.1 = some (tyX16 k) := by decide +kernel
abbrev cX16_init : ByteArray := prog_7_method_1_code
def yX16_init : MethodName := ⟨RX16, "<init>", "([BII)V"⟩
def dkwX16_init_1 : List UInt8 := [162, 0, 22, 42, 180, 0, 7, 21, 4, 43, 28, 21, 4, 96, 51, 84, 132, 4, 1, 167, 255, 230, 177]
abbrev dktX16_init_1 : List UInt8 := dkwX16_init_1 ++ []
def dkwX16_init_0 : List UInt8 := [42, 183, 0, 1, 42, 29, 28, 100, 188, 8, 181, 0, 7, 3, 54, 4, 21, 4, 42, 180, 0, 7, 190]
abbrev dktX16_init_0 : List UInt8 := dkwX16_init_0 ++ dktX16_init_1
theorem dksX16_init_0 : cX16_init.data.toList.drop 0 = dktX16_init_0 := by decide +kernel
theorem dksX16_init_1 : cX16_init.data.toList.drop 23 = dktX16_init_1 := dk_seg dksX16_init_0 23 rfl rfl
theorem dX16_init_0 : decode cX16_init 0 = .ok (.aload_n 0, 1) := dk_42 (dk_at dksX16_init_0 0 rfl rfl)
theorem dX16_init_1 : decode cX16_init 1 = .ok (.invokespecial 1, 3) := dk_183 0 1 (dk_at dksX16_init_0 1 rfl rfl)
theorem dX16_init_4 : decode cX16_init 4 = .ok (.aload_n 0, 1) := dk_42 (dk_at dksX16_init_0 4 rfl rfl)
theorem dX16_init_5 : decode cX16_init 5 = .ok (.iload_n 3, 1) := dk_29 (dk_at dksX16_init_0 5 rfl rfl)
theorem dX16_init_6 : decode cX16_init 6 = .ok (.iload_n 2, 1) := dk_28 (dk_at dksX16_init_0 6 rfl rfl)
theorem dX16_init_7 : decode cX16_init 7 = .ok (.isub, 1) := dk_100 (dk_at dksX16_init_0 7 rfl rfl)
theorem dX16_init_8 : decode cX16_init 8 = .ok (.newarray .byte, 2) := dk_188_8 (dk_at dksX16_init_0 8 rfl rfl)
theorem dX16_init_10 : decode cX16_init 10 = .ok (.putfield 7, 3) := dk_181 0 7 (dk_at dksX16_init_0 10 rfl rfl)
theorem dX16_init_13 : decode cX16_init 13 = .ok (.iconst 0, 1) := dk_3 (dk_at dksX16_init_0 13 rfl rfl)
theorem dX16_init_14 : decode cX16_init 14 = .ok (.istore 4, 2) := dk_54 4 (dk_at dksX16_init_0 14 rfl rfl)
theorem dX16_init_16 : decode cX16_init 16 = .ok (.iload 4, 2) := dk_21 4 (dk_at dksX16_init_0 16 rfl rfl)
theorem dX16_init_18 : decode cX16_init 18 = .ok (.aload_n 0, 1) := dk_42 (dk_at dksX16_init_0 18 rfl rfl)
theorem dX16_init_19 : decode cX16_init 19 = .ok (.getfield 7, 3) := dk_180 0 7 (dk_at dksX16_init_0 19 rfl rfl)
theorem dX16_init_22 : decode cX16_init 22 = .ok (.arraylength, 1) := dk_190 (dk_at dksX16_init_0 22 rfl rfl)
theorem dX16_init_23 : decode cX16_init 23 = .ok (.if_icmp .ge 22, 3) := dk_162 0 22 (dk_at dksX16_init_1 0 rfl rfl)
theorem dX16_init_26 : decode cX16_init 26 = .ok (.aload_n 0, 1) := dk_42 (dk_at dksX16_init_1 3 rfl rfl)
theorem dX16_init_27 : decode cX16_init 27 = .ok (.getfield 7, 3) := dk_180 0 7 (dk_at dksX16_init_1 4 rfl rfl)
theorem dX16_init_30 : decode cX16_init 30 = .ok (.iload 4, 2) := dk_21 4 (dk_at dksX16_init_1 7 rfl rfl)
theorem dX16_init_32 : decode cX16_init 32 = .ok (.aload_n 1, 1) := dk_43 (dk_at dksX16_init_1 9 rfl rfl)
theorem dX16_init_33 : decode cX16_init 33 = .ok (.iload_n 2, 1) := dk_28 (dk_at dksX16_init_1 10 rfl rfl)
theorem dX16_init_34 : decode cX16_init 34 = .ok (.iload 4, 2) := dk_21 4 (dk_at dksX16_init_1 11 rfl rfl)
theorem dX16_init_36 : decode cX16_init 36 = .ok (.iadd, 1) := dk_96 (dk_at dksX16_init_1 13 rfl rfl)
theorem dX16_init_37 : decode cX16_init 37 = .ok (.baload, 1) := dk_51 (dk_at dksX16_init_1 14 rfl rfl)
theorem dX16_init_38 : decode cX16_init 38 = .ok (.bastore, 1) := dk_84 (dk_at dksX16_init_1 15 rfl rfl)
theorem dX16_init_39 : decode cX16_init 39 = .ok (.iinc 4 1, 3) := dk_132 4 1 (dk_at dksX16_init_1 16 rfl rfl)
theorem dX16_init_42 : decode cX16_init 42 = .ok (.goto (-26), 3) := dk_167 255 230 (dk_at dksX16_init_1 19 rfl rfl)
theorem dX16_init_45 : decode cX16_init 45 = .ok (.return_, 1) := dk_177 (dk_at dksX16_init_1 22 rfl rfl)
abbrev cX16_ends : ByteArray := prog_7_method_3_code
def yX16_ends : MethodName := ⟨RX16, "ends", "(LEndingTown$Letters;)Z"⟩
def dkwX16_ends_2 : List UInt8 := [28, 96, 51, 159, 0, 5, 3, 172, 132, 2, 1, 167, 255, 215, 4, 172]
abbrev dktX16_ends_2 : List UInt8 := dkwX16_ends_2 ++ []
def dkwX16_ends_1 : List UInt8 := [162, 0, 38, 42, 180, 0, 7, 28, 51, 43, 180, 0, 7, 43, 180, 0, 7, 190, 42, 180, 0, 7, 190, 100]
abbrev dktX16_ends_1 : List UInt8 := dkwX16_ends_1 ++ dktX16_ends_2
def dkwX16_ends_0 : List UInt8 := [42, 180, 0, 7, 190, 43, 180, 0, 7, 190, 164, 0, 5, 3, 172, 3, 61, 28, 42, 180, 0, 7, 190]
abbrev dktX16_ends_0 : List UInt8 := dkwX16_ends_0 ++ dktX16_ends_1
theorem dksX16_ends_0 : cX16_ends.data.toList.drop 0 = dktX16_ends_0 := by decide +kernel
theorem dksX16_ends_1 : cX16_ends.data.toList.drop 23 = dktX16_ends_1 := dk_seg dksX16_ends_0 23 rfl rfl
theorem dksX16_ends_2 : cX16_ends.data.toList.drop 47 = dktX16_ends_2 := dk_seg dksX16_ends_1 24 rfl rfl
theorem dX16_ends_0 : decode cX16_ends 0 = .ok (.aload_n 0, 1) := dk_42 (dk_at dksX16_ends_0 0 rfl rfl)
theorem dX16_ends_1 : decode cX16_ends 1 = .ok (.getfield 7, 3) := dk_180 0 7 (dk_at dksX16_ends_0 1 rfl rfl)
theorem dX16_ends_4 : decode cX16_ends 4 = .ok (.arraylength, 1) := dk_190 (dk_at dksX16_ends_0 4 rfl rfl)
theorem dX16_ends_5 : decode cX16_ends 5 = .ok (.aload_n 1, 1) := dk_43 (dk_at dksX16_ends_0 5 rfl rfl)
theorem dX16_ends_6 : decode cX16_ends 6 = .ok (.getfield 7, 3) := dk_180 0 7 (dk_at dksX16_ends_0 6 rfl rfl)
theorem dX16_ends_9 : decode cX16_ends 9 = .ok (.arraylength, 1) := dk_190 (dk_at dksX16_ends_0 9 rfl rfl)
theorem dX16_ends_10 : decode cX16_ends 10 = .ok (.if_icmp .le 5, 3) := dk_164 0 5 (dk_at dksX16_ends_0 10 rfl rfl)
theorem dX16_ends_13 : decode cX16_ends 13 = .ok (.iconst 0, 1) := dk_3 (dk_at dksX16_ends_0 13 rfl rfl)
theorem dX16_ends_14 : decode cX16_ends 14 = .ok (.ireturn, 1) := dk_172 (dk_at dksX16_ends_0 14 rfl rfl)
theorem dX16_ends_15 : decode cX16_ends 15 = .ok (.iconst 0, 1) := dk_3 (dk_at dksX16_ends_0 15 rfl rfl)
theorem dX16_ends_16 : decode cX16_ends 16 = .ok (.istore_n 2, 1) := dk_61 (dk_at dksX16_ends_0 16 rfl rfl)
theorem dX16_ends_17 : decode cX16_ends 17 = .ok (.iload_n 2, 1) := dk_28 (dk_at dksX16_ends_0 17 rfl rfl)
theorem dX16_ends_18 : decode cX16_ends 18 = .ok (.aload_n 0, 1) := dk_42 (dk_at dksX16_ends_0 18 rfl rfl)
theorem dX16_ends_19 : decode cX16_ends 19 = .ok (.getfield 7, 3) := dk_180 0 7 (dk_at dksX16_ends_0 19 rfl rfl)
theorem dX16_ends_22 : decode cX16_ends 22 = .ok (.arraylength, 1) := dk_190 (dk_at dksX16_ends_0 22 rfl rfl)
theorem dX16_ends_23 : decode cX16_ends 23 = .ok (.if_icmp .ge 38, 3) := dk_162 0 38 (dk_at dksX16_ends_1 0 rfl rfl)
theorem dX16_ends_26 : decode cX16_ends 26 = .ok (.aload_n 0, 1) := dk_42 (dk_at dksX16_ends_1 3 rfl rfl)
theorem dX16_ends_27 : decode cX16_ends 27 = .ok (.getfield 7, 3) := dk_180 0 7 (dk_at dksX16_ends_1 4 rfl rfl)
theorem dX16_ends_30 : decode cX16_ends 30 = .ok (.iload_n 2, 1) := dk_28 (dk_at dksX16_ends_1 7 rfl rfl)
theorem dX16_ends_31 : decode cX16_ends 31 = .ok (.baload, 1) := dk_51 (dk_at dksX16_ends_1 8 rfl rfl)
theorem dX16_ends_32 : decode cX16_ends 32 = .ok (.aload_n 1, 1) := dk_43 (dk_at dksX16_ends_1 9 rfl rfl)
theorem dX16_ends_33 : decode cX16_ends 33 = .ok (.getfield 7, 3) := dk_180 0 7 (dk_at dksX16_ends_1 10 rfl rfl)
theorem dX16_ends_36 : decode cX16_ends 36 = .ok (.aload_n 1, 1) := dk_43 (dk_at dksX16_ends_1 13 rfl rfl)
theorem dX16_ends_37 : decode cX16_ends 37 = .ok (.getfield 7, 3) := dk_180 0 7 (dk_at dksX16_ends_1 14 rfl rfl)
theorem dX16_ends_40 : decode cX16_ends 40 = .ok (.arraylength, 1) := dk_190 (dk_at dksX16_ends_1 17 rfl rfl)
theorem dX16_ends_41 : decode cX16_ends 41 = .ok (.aload_n 0, 1) := dk_42 (dk_at dksX16_ends_1 18 rfl rfl)
theorem dX16_ends_42 : decode cX16_ends 42 = .ok (.getfield 7, 3) := dk_180 0 7 (dk_at dksX16_ends_1 19 rfl rfl)
theorem dX16_ends_45 : decode cX16_ends 45 = .ok (.arraylength, 1) := dk_190 (dk_at dksX16_ends_1 22 rfl rfl)
theorem dX16_ends_46 : decode cX16_ends 46 = .ok (.isub, 1) := dk_100 (dk_at dksX16_ends_1 23 rfl rfl)
theorem dX16_ends_47 : decode cX16_ends 47 = .ok (.iload_n 2, 1) := dk_28 (dk_at dksX16_ends_2 0 rfl rfl)
theorem dX16_ends_48 : decode cX16_ends 48 = .ok (.iadd, 1) := dk_96 (dk_at dksX16_ends_2 1 rfl rfl)
theorem dX16_ends_49 : decode cX16_ends 49 = .ok (.baload, 1) := dk_51 (dk_at dksX16_ends_2 2 rfl rfl)
theorem dX16_ends_50 : decode cX16_ends 50 = .ok (.if_icmp .eq 5, 3) := dk_159 0 5 (dk_at dksX16_ends_2 3 rfl rfl)
theorem dX16_ends_53 : decode cX16_ends 53 = .ok (.iconst 0, 1) := dk_3 (dk_at dksX16_ends_2 6 rfl rfl)
theorem dX16_ends_54 : decode cX16_ends 54 = .ok (.ireturn, 1) := dk_172 (dk_at dksX16_ends_2 7 rfl rfl)
theorem dX16_ends_55 : decode cX16_ends 55 = .ok (.iinc 2 1, 3) := dk_132 2 1 (dk_at dksX16_ends_2 8 rfl rfl)
theorem dX16_ends_58 : decode cX16_ends 58 = .ok (.goto (-41), 3) := dk_167 255 215 (dk_at dksX16_ends_2 11 rfl rfl)
theorem dX16_ends_61 : decode cX16_ends 61 = .ok (.iconst 1, 1) := dk_4 (dk_at dksX16_ends_2 14 rfl rfl)
theorem dX16_ends_62 : decode cX16_ends 62 = .ok (.ireturn, 1) := dk_172 (dk_at dksX16_ends_2 15 rfl rfl)
abbrev cX16_begins : ByteArray := prog_7_method_4_code
def yX16_begins : MethodName := ⟨RX16, "begins", "(LEndingTown$Letters;)Z"⟩
def dkwX16_begins_2 : List UInt8 := [167, 255, 227, 4, 172]
abbrev dktX16_begins_2 : List UInt8 := dkwX16_begins_2 ++ []
def dkwX16_begins_1 : List UInt8 := [162, 0, 26, 42, 180, 0, 7, 28, 51, 43, 180, 0, 7, 28, 51, 159, 0, 5, 3, 172, 132, 2, 1]
abbrev dktX16_begins_1 : List UInt8 := dkwX16_begins_1 ++ dktX16_begins_2
def dkwX16_begins_0 : List UInt8 := [42, 180, 0, 7, 190, 43, 180, 0, 7, 190, 164, 0, 5, 3, 172, 3, 61, 28, 42, 180, 0, 7, 190]
abbrev dktX16_begins_0 : List UInt8 := dkwX16_begins_0 ++ dktX16_begins_1
theorem dksX16_begins_0 : cX16_begins.data.toList.drop 0 = dktX16_begins_0 := by decide +kernel
theorem dksX16_begins_1 : cX16_begins.data.toList.drop 23 = dktX16_begins_1 := dk_seg dksX16_begins_0 23 rfl rfl
theorem dksX16_begins_2 : cX16_begins.data.toList.drop 46 = dktX16_begins_2 := dk_seg dksX16_begins_1 23 rfl rfl
theorem dX16_begins_0 : decode cX16_begins 0 = .ok (.aload_n 0, 1) := dk_42 (dk_at dksX16_begins_0 0 rfl rfl)
theorem dX16_begins_1 : decode cX16_begins 1 = .ok (.getfield 7, 3) := dk_180 0 7 (dk_at dksX16_begins_0 1 rfl rfl)
theorem dX16_begins_4 : decode cX16_begins 4 = .ok (.arraylength, 1) := dk_190 (dk_at dksX16_begins_0 4 rfl rfl)
theorem dX16_begins_5 : decode cX16_begins 5 = .ok (.aload_n 1, 1) := dk_43 (dk_at dksX16_begins_0 5 rfl rfl)
theorem dX16_begins_6 : decode cX16_begins 6 = .ok (.getfield 7, 3) := dk_180 0 7 (dk_at dksX16_begins_0 6 rfl rfl)
theorem dX16_begins_9 : decode cX16_begins 9 = .ok (.arraylength, 1) := dk_190 (dk_at dksX16_begins_0 9 rfl rfl)
theorem dX16_begins_10 : decode cX16_begins 10 = .ok (.if_icmp .le 5, 3) := dk_164 0 5 (dk_at dksX16_begins_0 10 rfl rfl)
theorem dX16_begins_13 : decode cX16_begins 13 = .ok (.iconst 0, 1) := dk_3 (dk_at dksX16_begins_0 13 rfl rfl)
theorem dX16_begins_14 : decode cX16_begins 14 = .ok (.ireturn, 1) := dk_172 (dk_at dksX16_begins_0 14 rfl rfl)
theorem dX16_begins_15 : decode cX16_begins 15 = .ok (.iconst 0, 1) := dk_3 (dk_at dksX16_begins_0 15 rfl rfl)
theorem dX16_begins_16 : decode cX16_begins 16 = .ok (.istore_n 2, 1) := dk_61 (dk_at dksX16_begins_0 16 rfl rfl)
theorem dX16_begins_17 : decode cX16_begins 17 = .ok (.iload_n 2, 1) := dk_28 (dk_at dksX16_begins_0 17 rfl rfl)
theorem dX16_begins_18 : decode cX16_begins 18 = .ok (.aload_n 0, 1) := dk_42 (dk_at dksX16_begins_0 18 rfl rfl)
theorem dX16_begins_19 : decode cX16_begins 19 = .ok (.getfield 7, 3) := dk_180 0 7 (dk_at dksX16_begins_0 19 rfl rfl)
theorem dX16_begins_22 : decode cX16_begins 22 = .ok (.arraylength, 1) := dk_190 (dk_at dksX16_begins_0 22 rfl rfl)
theorem dX16_begins_23 : decode cX16_begins 23 = .ok (.if_icmp .ge 26, 3) := dk_162 0 26 (dk_at dksX16_begins_1 0 rfl rfl)
theorem dX16_begins_26 : decode cX16_begins 26 = .ok (.aload_n 0, 1) := dk_42 (dk_at dksX16_begins_1 3 rfl rfl)
theorem dX16_begins_27 : decode cX16_begins 27 = .ok (.getfield 7, 3) := dk_180 0 7 (dk_at dksX16_begins_1 4 rfl rfl)
theorem dX16_begins_30 : decode cX16_begins 30 = .ok (.iload_n 2, 1) := dk_28 (dk_at dksX16_begins_1 7 rfl rfl)
theorem dX16_begins_31 : decode cX16_begins 31 = .ok (.baload, 1) := dk_51 (dk_at dksX16_begins_1 8 rfl rfl)
theorem dX16_begins_32 : decode cX16_begins 32 = .ok (.aload_n 1, 1) := dk_43 (dk_at dksX16_begins_1 9 rfl rfl)
theorem dX16_begins_33 : decode cX16_begins 33 = .ok (.getfield 7, 3) := dk_180 0 7 (dk_at dksX16_begins_1 10 rfl rfl)
theorem dX16_begins_36 : decode cX16_begins 36 = .ok (.iload_n 2, 1) := dk_28 (dk_at dksX16_begins_1 13 rfl rfl)
theorem dX16_begins_37 : decode cX16_begins 37 = .ok (.baload, 1) := dk_51 (dk_at dksX16_begins_1 14 rfl rfl)
theorem dX16_begins_38 : decode cX16_begins 38 = .ok (.if_icmp .eq 5, 3) := dk_159 0 5 (dk_at dksX16_begins_1 15 rfl rfl)
theorem dX16_begins_41 : decode cX16_begins 41 = .ok (.iconst 0, 1) := dk_3 (dk_at dksX16_begins_1 18 rfl rfl)
theorem dX16_begins_42 : decode cX16_begins 42 = .ok (.ireturn, 1) := dk_172 (dk_at dksX16_begins_1 19 rfl rfl)
theorem dX16_begins_43 : decode cX16_begins 43 = .ok (.iinc 2 1, 3) := dk_132 2 1 (dk_at dksX16_begins_1 20 rfl rfl)
theorem dX16_begins_46 : decode cX16_begins 46 = .ok (.goto (-29), 3) := dk_167 255 227 (dk_at dksX16_begins_2 0 rfl rfl)
theorem dX16_begins_49 : decode cX16_begins 49 = .ok (.iconst 1, 1) := dk_4 (dk_at dksX16_begins_2 3 rfl rfl)
theorem dX16_begins_50 : decode cX16_begins 50 = .ok (.ireturn, 1) := dk_172 (dk_at dksX16_begins_2 4 rfl rfl)
abbrev cX16_init_2 : ByteArray := prog_7_method_2_code
def yX16_init_2 : MethodName := ⟨RX16, "<init>", "(I)V"⟩
def dkwX16_init_2_0 : List UInt8 := [42, 183, 0, 1, 42, 27, 188, 8, 181, 0, 7, 177]
abbrev dktX16_init_2_0 : List UInt8 := dkwX16_init_2_0 ++ []
theorem dksX16_init_2_0 : cX16_init_2.data.toList.drop 0 = dktX16_init_2_0 := by decide +kernel
theorem dX16_init_2_0 : decode cX16_init_2 0 = .ok (.aload_n 0, 1) := dk_42 (dk_at dksX16_init_2_0 0 rfl rfl)
theorem dX16_init_2_1 : decode cX16_init_2 1 = .ok (.invokespecial 1, 3) := dk_183 0 1 (dk_at dksX16_init_2_0 1 rfl rfl)
theorem dX16_init_2_4 : decode cX16_init_2 4 = .ok (.aload_n 0, 1) := dk_42 (dk_at dksX16_init_2_0 4 rfl rfl)
theorem dX16_init_2_5 : decode cX16_init_2 5 = .ok (.iload_n 1, 1) := dk_27 (dk_at dksX16_init_2_0 5 rfl rfl)
theorem dX16_init_2_6 : decode cX16_init_2 6 = .ok (.newarray .byte, 2) := dk_188_8 (dk_at dksX16_init_2_0 6 rfl rfl)
theorem dX16_init_2_8 : decode cX16_init_2 8 = .ok (.putfield 7, 3) := dk_181 0 7 (dk_at dksX16_init_2_0 8 rfl rfl)
theorem dX16_init_2_11 : decode cX16_init_2 11 = .ok (.return_, 1) := dk_177 (dk_at dksX16_init_2_0 11 rfl rfl)
abbrev cX16_lay : ByteArray := prog_7_method_6_code
def yX16_lay : MethodName := ⟨RX16, "lay", "(LEndingTown$Letters;III)I"⟩
def dkwX16_lay_1 : List UInt8 := [21, 5, 51, 84, 132, 5, 1, 167, 255, 228, 28, 21, 4, 96, 29, 100, 172]
abbrev dktX16_lay_1 : List UInt8 := dkwX16_lay_1 ++ []
def dkwX16_lay_0 : List UInt8 := [29, 54, 5, 21, 5, 21, 4, 162, 0, 27, 43, 180, 0, 7, 28, 21, 5, 96, 29, 100, 42, 180, 0, 7]
abbrev dktX16_lay_0 : List UInt8 := dkwX16_lay_0 ++ dktX16_lay_1
theorem dksX16_lay_0 : cX16_lay.data.toList.drop 0 = dktX16_lay_0 := by decide +kernel
theorem dksX16_lay_1 : cX16_lay.data.toList.drop 24 = dktX16_lay_1 := dk_seg dksX16_lay_0 24 rfl rfl
theorem dX16_lay_0 : decode cX16_lay 0 = .ok (.iload_n 3, 1) := dk_29 (dk_at dksX16_lay_0 0 rfl rfl)
theorem dX16_lay_1 : decode cX16_lay 1 = .ok (.istore 5, 2) := dk_54 5 (dk_at dksX16_lay_0 1 rfl rfl)
theorem dX16_lay_3 : decode cX16_lay 3 = .ok (.iload 5, 2) := dk_21 5 (dk_at dksX16_lay_0 3 rfl rfl)
theorem dX16_lay_5 : decode cX16_lay 5 = .ok (.iload 4, 2) := dk_21 4 (dk_at dksX16_lay_0 5 rfl rfl)
theorem dX16_lay_7 : decode cX16_lay 7 = .ok (.if_icmp .ge 27, 3) := dk_162 0 27 (dk_at dksX16_lay_0 7 rfl rfl)
theorem dX16_lay_10 : decode cX16_lay 10 = .ok (.aload_n 1, 1) := dk_43 (dk_at dksX16_lay_0 10 rfl rfl)
theorem dX16_lay_11 : decode cX16_lay 11 = .ok (.getfield 7, 3) := dk_180 0 7 (dk_at dksX16_lay_0 11 rfl rfl)
theorem dX16_lay_14 : decode cX16_lay 14 = .ok (.iload_n 2, 1) := dk_28 (dk_at dksX16_lay_0 14 rfl rfl)
theorem dX16_lay_15 : decode cX16_lay 15 = .ok (.iload 5, 2) := dk_21 5 (dk_at dksX16_lay_0 15 rfl rfl)
theorem dX16_lay_17 : decode cX16_lay 17 = .ok (.iadd, 1) := dk_96 (dk_at dksX16_lay_0 17 rfl rfl)
theorem dX16_lay_18 : decode cX16_lay 18 = .ok (.iload_n 3, 1) := dk_29 (dk_at dksX16_lay_0 18 rfl rfl)
theorem dX16_lay_19 : decode cX16_lay 19 = .ok (.isub, 1) := dk_100 (dk_at dksX16_lay_0 19 rfl rfl)
theorem dX16_lay_20 : decode cX16_lay 20 = .ok (.aload_n 0, 1) := dk_42 (dk_at dksX16_lay_0 20 rfl rfl)
theorem dX16_lay_21 : decode cX16_lay 21 = .ok (.getfield 7, 3) := dk_180 0 7 (dk_at dksX16_lay_0 21 rfl rfl)
theorem dX16_lay_24 : decode cX16_lay 24 = .ok (.iload 5, 2) := dk_21 5 (dk_at dksX16_lay_1 0 rfl rfl)
theorem dX16_lay_26 : decode cX16_lay 26 = .ok (.baload, 1) := dk_51 (dk_at dksX16_lay_1 2 rfl rfl)
theorem dX16_lay_27 : decode cX16_lay 27 = .ok (.bastore, 1) := dk_84 (dk_at dksX16_lay_1 3 rfl rfl)
theorem dX16_lay_28 : decode cX16_lay 28 = .ok (.iinc 5 1, 3) := dk_132 5 1 (dk_at dksX16_lay_1 4 rfl rfl)
theorem dX16_lay_31 : decode cX16_lay 31 = .ok (.goto (-28), 3) := dk_167 255 228 (dk_at dksX16_lay_1 7 rfl rfl)
theorem dX16_lay_34 : decode cX16_lay 34 = .ok (.iload_n 2, 1) := dk_28 (dk_at dksX16_lay_1 10 rfl rfl)
theorem dX16_lay_35 : decode cX16_lay 35 = .ok (.iload 4, 2) := dk_21 4 (dk_at dksX16_lay_1 11 rfl rfl)
theorem dX16_lay_37 : decode cX16_lay 37 = .ok (.iadd, 1) := dk_96 (dk_at dksX16_lay_1 13 rfl rfl)
theorem dX16_lay_38 : decode cX16_lay 38 = .ok (.iload_n 3, 1) := dk_29 (dk_at dksX16_lay_1 14 rfl rfl)
theorem dX16_lay_39 : decode cX16_lay 39 = .ok (.isub, 1) := dk_100 (dk_at dksX16_lay_1 15 rfl rfl)
theorem dX16_lay_40 : decode cX16_lay 40 = .ok (.ireturn, 1) := dk_172 (dk_at dksX16_lay_1 16 rfl rfl)
abbrev cX16_is : ByteArray := prog_7_method_5_code
def yX16_is : MethodName := ⟨RX16, "is", "(LEndingTown$Letters;)Z"⟩
def dkwX16_is_1 : List UInt8 := [167, 0, 4, 3, 172]
abbrev dktX16_is_1 : List UInt8 := dkwX16_is_1 ++ []
def dkwX16_is_0 : List UInt8 := [42, 180, 0, 7, 190, 43, 180, 0, 7, 190, 160, 0, 15, 42, 43, 182, 0, 13, 153, 0, 7, 4]
abbrev dktX16_is_0 : List UInt8 := dkwX16_is_0 ++ dktX16_is_1
theorem dksX16_is_0 : cX16_is.data.toList.drop 0 = dktX16_is_0 := by decide +kernel
theorem dksX16_is_1 : cX16_is.data.toList.drop 22 = dktX16_is_1 := dk_seg dksX16_is_0 22 rfl rfl
theorem dX16_is_0 : decode cX16_is 0 = .ok (.aload_n 0, 1) := dk_42 (dk_at dksX16_is_0 0 rfl rfl)
theorem dX16_is_1 : decode cX16_is 1 = .ok (.getfield 7, 3) := dk_180 0 7 (dk_at dksX16_is_0 1 rfl rfl)
theorem dX16_is_4 : decode cX16_is 4 = .ok (.arraylength, 1) := dk_190 (dk_at dksX16_is_0 4 rfl rfl)
theorem dX16_is_5 : decode cX16_is 5 = .ok (.aload_n 1, 1) := dk_43 (dk_at dksX16_is_0 5 rfl rfl)
theorem dX16_is_6 : decode cX16_is 6 = .ok (.getfield 7, 3) := dk_180 0 7 (dk_at dksX16_is_0 6 rfl rfl)
theorem dX16_is_9 : decode cX16_is 9 = .ok (.arraylength, 1) := dk_190 (dk_at dksX16_is_0 9 rfl rfl)
theorem dX16_is_10 : decode cX16_is 10 = .ok (.if_icmp .ne 15, 3) := dk_160 0 15 (dk_at dksX16_is_0 10 rfl rfl)
theorem dX16_is_13 : decode cX16_is 13 = .ok (.aload_n 0, 1) := dk_42 (dk_at dksX16_is_0 13 rfl rfl)
theorem dX16_is_14 : decode cX16_is 14 = .ok (.aload_n 1, 1) := dk_43 (dk_at dksX16_is_0 14 rfl rfl)
theorem dX16_is_15 : decode cX16_is 15 = .ok (.invokevirtual 13, 3) := dk_182 0 13 (dk_at dksX16_is_0 15 rfl rfl)
theorem dX16_is_18 : decode cX16_is 18 = .ok (.ifCond .eq 7, 3) := dk_153 0 7 (dk_at dksX16_is_0 18 rfl rfl)
theorem dX16_is_21 : decode cX16_is 21 = .ok (.iconst 1, 1) := dk_4 (dk_at dksX16_is_0 21 rfl rfl)
theorem dX16_is_22 : decode cX16_is 22 = .ok (.goto 4, 3) := dk_167 0 4 (dk_at dksX16_is_1 0 rfl rfl)
theorem dX16_is_25 : decode cX16_is 25 = .ok (.iconst 0, 1) := dk_3 (dk_at dksX16_is_1 3 rfl rfl)
theorem dX16_is_26 : decode cX16_is 26 = .ok (.ireturn, 1) := dk_172 (dk_at dksX16_is_1 4 rfl rfl)
theorem q131 : (Jvm.Cond.initialized "EndingTown$Letters") ∈ lw_all := lw_g (lw_at lw_m1 32 rfl) rfl
theorem q591 : (Jvm.Cond.selects "EndingTown$Letters" ({ cls := "java/lang/Object", name := "getClass", desc := "()Ljava/lang/Class;" } : Jvm.MethodName) ({ cls := "java/lang/Object", name := "getClass", desc := "()Ljava/lang/Class;" } : Jvm.MethodName)) ∈ lw_all := lw_g (lw_at lw_m3 12 rfl) rfl
theorem q1018 : (Jvm.Cond.instantiable "EndingTown$Letters" (1 : Nat)) ∈ lw_all := lw_g (lw_at lw_m4 199 rfl) rfl
theorem q1020 : (Jvm.Cond.instanceMethod ({ cls := "EndingTown$Letters", name := "<init>", desc := "([BII)V" } : Jvm.MethodName)) ∈ lw_all := lw_g (lw_at lw_m4 201 rfl) rfl
theorem q1021 : (Jvm.Cond.code ({ cls := "EndingTown$Letters", name := "<init>", desc := "([BII)V" } : Jvm.MethodName) prog_7_method_1_code (5 : Nat) (Option.none : Option Jvm.ClassFile.FieldType)) ∈ lw_all := lw_g (lw_at lw_m4 202 rfl) rfl
theorem q1022 : (Jvm.Cond.methodLink "EndingTown$Letters" (1 : Nat) ({ cls := "java/lang/Object", name := "<init>", desc := "()V" } : Jvm.MethodName)) ∈ lw_all := lw_g (lw_at lw_m4 203 rfl) rfl
theorem q1023 : (Jvm.Cond.fieldLink "EndingTown$Letters" (7 : Nat) "EndingTown$Letters" "of" "[B") ∈ lw_all := lw_g (lw_at lw_m4 204 rfl) rfl
theorem q1026 : (Jvm.Cond.laysFinal "EndingTown$Letters" "EndingTown$Letters" "of" "[B") ∈ lw_all := lw_g (lw_at lw_m4 207 rfl) rfl
theorem q1027 : (Jvm.Cond.soleField "EndingTown$Letters" "of") ∈ lw_all := lw_g (lw_at lw_m4 208 rfl) rfl
theorem q1028 : (Jvm.Cond.superclass "EndingTown$Letters" "java/lang/Object") ∈ lw_all := lw_g (lw_at lw_m4 209 rfl) rfl
theorem q1127 : (Jvm.Cond.instanceMethod ({ cls := "EndingTown$Letters", name := "ends", desc := "(LEndingTown$Letters;)Z" } : Jvm.MethodName)) ∈ lw_all := lw_g (lw_at lw_m5 68 rfl) rfl
theorem q1128 : (Jvm.Cond.selects "EndingTown$Letters" ({ cls := "EndingTown$Letters", name := "ends", desc := "(LEndingTown$Letters;)Z" } : Jvm.MethodName) ({ cls := "EndingTown$Letters", name := "ends", desc := "(LEndingTown$Letters;)Z" } : Jvm.MethodName)) ∈ lw_all := lw_g (lw_at lw_m5 69 rfl) rfl
theorem q1129 : (Jvm.Cond.code ({ cls := "EndingTown$Letters", name := "ends", desc := "(LEndingTown$Letters;)Z" } : Jvm.MethodName) prog_7_method_3_code (3 : Nat) (Option.some Jvm.ClassFile.FieldType.boolean)) ∈ lw_all := lw_g (lw_at lw_m5 70 rfl) rfl
theorem q1131 : (Jvm.Cond.instanceMethod ({ cls := "EndingTown$Letters", name := "begins", desc := "(LEndingTown$Letters;)Z" } : Jvm.MethodName)) ∈ lw_all := lw_g (lw_at lw_m5 72 rfl) rfl
theorem q1132 : (Jvm.Cond.selects "EndingTown$Letters" ({ cls := "EndingTown$Letters", name := "begins", desc := "(LEndingTown$Letters;)Z" } : Jvm.MethodName) ({ cls := "EndingTown$Letters", name := "begins", desc := "(LEndingTown$Letters;)Z" } : Jvm.MethodName)) ∈ lw_all := lw_g (lw_at lw_m5 73 rfl) rfl
theorem q1133 : (Jvm.Cond.code ({ cls := "EndingTown$Letters", name := "begins", desc := "(LEndingTown$Letters;)Z" } : Jvm.MethodName) prog_7_method_4_code (3 : Nat) (Option.some Jvm.ClassFile.FieldType.boolean)) ∈ lw_all := lw_g (lw_at lw_m5 74 rfl) rfl
theorem q1135 : (Jvm.Cond.instanceMethod ({ cls := "EndingTown$Letters", name := "<init>", desc := "(I)V" } : Jvm.MethodName)) ∈ lw_all := lw_g (lw_at lw_m5 76 rfl) rfl
theorem q1136 : (Jvm.Cond.code ({ cls := "EndingTown$Letters", name := "<init>", desc := "(I)V" } : Jvm.MethodName) prog_7_method_2_code (2 : Nat) (Option.none : Option Jvm.ClassFile.FieldType)) ∈ lw_all := lw_g (lw_at lw_m5 77 rfl) rfl
theorem q1138 : (Jvm.Cond.instanceMethod ({ cls := "EndingTown$Letters", name := "lay", desc := "(LEndingTown$Letters;III)I" } : Jvm.MethodName)) ∈ lw_all := lw_g (lw_at lw_m5 79 rfl) rfl
theorem q1139 : (Jvm.Cond.selects "EndingTown$Letters" ({ cls := "EndingTown$Letters", name := "lay", desc := "(LEndingTown$Letters;III)I" } : Jvm.MethodName) ({ cls := "EndingTown$Letters", name := "lay", desc := "(LEndingTown$Letters;III)I" } : Jvm.MethodName)) ∈ lw_all := lw_g (lw_at lw_m5 80 rfl) rfl
theorem q1140 : (Jvm.Cond.code ({ cls := "EndingTown$Letters", name := "lay", desc := "(LEndingTown$Letters;III)I" } : Jvm.MethodName) prog_7_method_6_code (6 : Nat) (Option.some Jvm.ClassFile.FieldType.int)) ∈ lw_all := lw_g (lw_at lw_m5 81 rfl) rfl
theorem q1155 : (Jvm.Cond.instanceMethod ({ cls := "EndingTown$Letters", name := "is", desc := "(LEndingTown$Letters;)Z" } : Jvm.MethodName)) ∈ lw_all := lw_g (lw_at lw_m5 96 rfl) rfl
theorem q1156 : (Jvm.Cond.selects "EndingTown$Letters" ({ cls := "EndingTown$Letters", name := "is", desc := "(LEndingTown$Letters;)Z" } : Jvm.MethodName) ({ cls := "EndingTown$Letters", name := "is", desc := "(LEndingTown$Letters;)Z" } : Jvm.MethodName)) ∈ lw_all := lw_g (lw_at lw_m5 97 rfl) rfl
theorem q1157 : (Jvm.Cond.code ({ cls := "EndingTown$Letters", name := "is", desc := "(LEndingTown$Letters;)Z" } : Jvm.MethodName) prog_7_method_5_code (2 : Nat) (Option.some Jvm.ClassFile.FieldType.boolean)) ∈ lw_all := lw_g (lw_at lw_m5 98 rfl) rfl
theorem q1158 : (Jvm.Cond.methodLink "EndingTown$Letters" (13 : Nat) ({ cls := "EndingTown$Letters", name := "begins", desc := "(LEndingTown$Letters;)Z" } : Jvm.MethodName)) ∈ lw_all := lw_g (lw_at lw_m5 99 rfl) rfl
theorem q1924 : (Jvm.Cond.castable "EndingTown$Letters" "java/lang/Object") ∈ lw_tbl := lw_at lw_m8 145 rfl
theorem in_X16 : ∀ w ∈ wsX160, w ∈ lw_all := lw_in wsX160 [1026] (by decide +kernel) (by decide +kernel)
/-! EndingTown$Change -/
set_option maxRecDepth 100000
def RX17 : String := "EndingTown$Change"
def TX17 : u_T := fun k => match k with
  | 0 => ("EndingTown$Change", "ends", "LEndingTown$Letters;", true)
  | 1 => ("EndingTown$Change", "begins", "LEndingTown$Letters;", true)
  | _ => ("EndingTown$Change", "to", "LEndingTown$Letters;", true)
def tyX17 : Nat → FieldType := fun k => match k with
  | 0 => .object "EndingTown$Letters"
  | 1 => .object "EndingTown$Letters"
  | _ => .object "EndingTown$Letters"
abbrev wsX170 : List Cond := u_ws RX17 TX17 3
theorem nmX17 : ∀ a, a < 3 → ∀ b, b < 3 → a ≠ b → (TX17 a).2.1 ≠ (TX17 b).2.1 := by decide +kernel
theorem tyX17_ok : ∀ k, k < 3 → parseFieldDescriptor (TX17 k).2.2.1 = some (tyX17 k) := by decide +kernel
abbrev cX17_init : ByteArray := prog_2_method_1_code
def yX17_init : MethodName := ⟨RX17, "<init>", "(LEndingTown$Letters;LEndingTown$Letters;LEndingTown$Letters;)V"⟩
def dkwX17_init_0 : List UInt8 := [42, 183, 0, 1, 42, 43, 181, 0, 7, 42, 44, 181, 0, 13, 42, 45, 181, 0, 16, 177]
abbrev dktX17_init_0 : List UInt8 := dkwX17_init_0 ++ []
theorem dksX17_init_0 : cX17_init.data.toList.drop 0 = dktX17_init_0 := by decide +kernel
theorem dX17_init_0 : decode cX17_init 0 = .ok (.aload_n 0, 1) := dk_42 (dk_at dksX17_init_0 0 rfl rfl)
theorem dX17_init_1 : decode cX17_init 1 = .ok (.invokespecial 1, 3) := dk_183 0 1 (dk_at dksX17_init_0 1 rfl rfl)
theorem dX17_init_4 : decode cX17_init 4 = .ok (.aload_n 0, 1) := dk_42 (dk_at dksX17_init_0 4 rfl rfl)
theorem dX17_init_5 : decode cX17_init 5 = .ok (.aload_n 1, 1) := dk_43 (dk_at dksX17_init_0 5 rfl rfl)
theorem dX17_init_6 : decode cX17_init 6 = .ok (.putfield 7, 3) := dk_181 0 7 (dk_at dksX17_init_0 6 rfl rfl)
theorem dX17_init_9 : decode cX17_init 9 = .ok (.aload_n 0, 1) := dk_42 (dk_at dksX17_init_0 9 rfl rfl)
theorem dX17_init_10 : decode cX17_init 10 = .ok (.aload_n 2, 1) := dk_44 (dk_at dksX17_init_0 10 rfl rfl)
theorem dX17_init_11 : decode cX17_init 11 = .ok (.putfield 13, 3) := dk_181 0 13 (dk_at dksX17_init_0 11 rfl rfl)
theorem dX17_init_14 : decode cX17_init 14 = .ok (.aload_n 0, 1) := dk_42 (dk_at dksX17_init_0 14 rfl rfl)
theorem dX17_init_15 : decode cX17_init 15 = .ok (.aload_n 3, 1) := dk_45 (dk_at dksX17_init_0 15 rfl rfl)
theorem dX17_init_16 : decode cX17_init 16 = .ok (.putfield 16, 3) := dk_181 0 16 (dk_at dksX17_init_0 16 rfl rfl)
theorem dX17_init_19 : decode cX17_init 19 = .ok (.return_, 1) := dk_177 (dk_at dksX17_init_0 19 rfl rfl)
theorem q132 : (Jvm.Cond.initialized "EndingTown$Change") ∈ lw_all := lw_g (lw_at lw_m1 33 rfl) rfl
theorem q587 : (Jvm.Cond.selects "EndingTown$Change" ({ cls := "java/lang/Object", name := "getClass", desc := "()Ljava/lang/Class;" } : Jvm.MethodName) ({ cls := "java/lang/Object", name := "getClass", desc := "()Ljava/lang/Class;" } : Jvm.MethodName)) ∈ lw_all := lw_g (lw_at lw_m3 8 rfl) rfl
theorem q1040 : (Jvm.Cond.instantiable "EndingTown$Change" (3 : Nat)) ∈ lw_all := lw_g (lw_at lw_m4 221 rfl) rfl
theorem q1042 : (Jvm.Cond.instanceMethod ({ cls := "EndingTown$Change", name := "<init>", desc := "(LEndingTown$Letters;LEndingTown$Letters;LEndingTown$Letters;)V" } : Jvm.MethodName)) ∈ lw_all := lw_g (lw_at lw_m4 223 rfl) rfl
theorem q1043 : (Jvm.Cond.code ({ cls := "EndingTown$Change", name := "<init>", desc := "(LEndingTown$Letters;LEndingTown$Letters;LEndingTown$Letters;)V" } : Jvm.MethodName) prog_2_method_1_code (4 : Nat) (Option.none : Option Jvm.ClassFile.FieldType)) ∈ lw_all := lw_g (lw_at lw_m4 224 rfl) rfl
theorem q1044 : (Jvm.Cond.methodLink "EndingTown$Change" (1 : Nat) ({ cls := "java/lang/Object", name := "<init>", desc := "()V" } : Jvm.MethodName)) ∈ lw_all := lw_g (lw_at lw_m4 225 rfl) rfl
theorem q1045 : (Jvm.Cond.fieldLink "EndingTown$Change" (7 : Nat) "EndingTown$Change" "ends" "LEndingTown$Letters;") ∈ lw_all := lw_g (lw_at lw_m4 226 rfl) rfl
theorem q1047 : (Jvm.Cond.fieldLink "EndingTown$Change" (13 : Nat) "EndingTown$Change" "begins" "LEndingTown$Letters;") ∈ lw_all := lw_g (lw_at lw_m4 228 rfl) rfl
theorem q1049 : (Jvm.Cond.fieldLink "EndingTown$Change" (16 : Nat) "EndingTown$Change" "to" "LEndingTown$Letters;") ∈ lw_all := lw_g (lw_at lw_m4 230 rfl) rfl
theorem q1051 : (Jvm.Cond.laysFinal "EndingTown$Change" "EndingTown$Change" "ends" "LEndingTown$Letters;") ∈ lw_all := lw_g (lw_at lw_m4 232 rfl) rfl
theorem q1052 : (Jvm.Cond.soleField "EndingTown$Change" "ends") ∈ lw_all := lw_g (lw_at lw_m4 233 rfl) rfl
theorem q1053 : (Jvm.Cond.laysFinal "EndingTown$Change" "EndingTown$Change" "begins" "LEndingTown$Letters;") ∈ lw_all := lw_g (lw_at lw_m4 234 rfl) rfl
theorem q1054 : (Jvm.Cond.soleField "EndingTown$Change" "begins") ∈ lw_all := lw_g (lw_at lw_m4 235 rfl) rfl
theorem q1055 : (Jvm.Cond.laysFinal "EndingTown$Change" "EndingTown$Change" "to" "LEndingTown$Letters;") ∈ lw_all := lw_g (lw_at lw_m4 236 rfl) rfl
theorem q1056 : (Jvm.Cond.soleField "EndingTown$Change" "to") ∈ lw_all := lw_g (lw_at lw_m4 237 rfl) rfl
theorem q1057 : (Jvm.Cond.superclass "EndingTown$Change" "java/lang/Object") ∈ lw_all := lw_g (lw_at lw_m4 238 rfl) rfl
theorem q1941 : (Jvm.Cond.castable "EndingTown$Change" "java/lang/Object") ∈ lw_tbl := lw_at lw_m8 162 rfl
theorem in_X17 : ∀ w ∈ wsX170, w ∈ lw_all := lw_in wsX170 [1051, 1053, 1055] (by decide +kernel) (by decide +kernel)
/-! EndingTown$Saying -/
set_option maxRecDepth 100000
def RX18 : String := "EndingTown$Saying"
def TX18 : u_T := fun k => match k with
  | 0 => ("EndingTown$Saying", "person", "I", true)
  | 1 => ("EndingTown$Saying", "hour", "I", true)
  | 2 => ("EndingTown$Saying", "thing", "I", true)
  | 3 => ("EndingTown$Saying", "how", "I", true)
  | _ => ("EndingTown$Saying", "not", "Z", true)
def tyX18 : Nat → FieldType := fun k => match k with
  | 0 => .int
  | 1 => .int
  | 2 => .int
  | 3 => .int
  | _ => .boolean
abbrev wsX180 : List Cond := u_ws RX18 TX18 5
theorem nmX18 : ∀ a, a < 5 → ∀ b, b < 5 → a ≠ b → (TX18 a).2.1 ≠ (TX18 b).2.1 := by decide +kernel
theorem tyX18_ok : ∀ k, k < 5 → parseFieldDescriptor (TX18 k).2.2.1 = some (tyX18 k) := by decide +kernel
abbrev cX18_init : ByteArray := prog_11_method_1_code
def yX18_init : MethodName := ⟨RX18, "<init>", "(IIIIZ)V"⟩
def dkwX18_init_1 : List UInt8 := [181, 0, 19, 42, 21, 5, 181, 0, 22, 177]
abbrev dktX18_init_1 : List UInt8 := dkwX18_init_1 ++ []
def dkwX18_init_0 : List UInt8 := [42, 183, 0, 1, 42, 27, 181, 0, 7, 42, 28, 181, 0, 13, 42, 29, 181, 0, 16, 42, 21, 4]
abbrev dktX18_init_0 : List UInt8 := dkwX18_init_0 ++ dktX18_init_1
theorem dksX18_init_0 : cX18_init.data.toList.drop 0 = dktX18_init_0 := by decide +kernel
theorem dksX18_init_1 : cX18_init.data.toList.drop 22 = dktX18_init_1 := dk_seg dksX18_init_0 22 rfl rfl
theorem dX18_init_0 : decode cX18_init 0 = .ok (.aload_n 0, 1) := dk_42 (dk_at dksX18_init_0 0 rfl rfl)
theorem dX18_init_1 : decode cX18_init 1 = .ok (.invokespecial 1, 3) := dk_183 0 1 (dk_at dksX18_init_0 1 rfl rfl)
theorem dX18_init_4 : decode cX18_init 4 = .ok (.aload_n 0, 1) := dk_42 (dk_at dksX18_init_0 4 rfl rfl)
theorem dX18_init_5 : decode cX18_init 5 = .ok (.iload_n 1, 1) := dk_27 (dk_at dksX18_init_0 5 rfl rfl)
theorem dX18_init_6 : decode cX18_init 6 = .ok (.putfield 7, 3) := dk_181 0 7 (dk_at dksX18_init_0 6 rfl rfl)
theorem dX18_init_9 : decode cX18_init 9 = .ok (.aload_n 0, 1) := dk_42 (dk_at dksX18_init_0 9 rfl rfl)
theorem dX18_init_10 : decode cX18_init 10 = .ok (.iload_n 2, 1) := dk_28 (dk_at dksX18_init_0 10 rfl rfl)
theorem dX18_init_11 : decode cX18_init 11 = .ok (.putfield 13, 3) := dk_181 0 13 (dk_at dksX18_init_0 11 rfl rfl)
theorem dX18_init_14 : decode cX18_init 14 = .ok (.aload_n 0, 1) := dk_42 (dk_at dksX18_init_0 14 rfl rfl)
theorem dX18_init_15 : decode cX18_init 15 = .ok (.iload_n 3, 1) := dk_29 (dk_at dksX18_init_0 15 rfl rfl)
theorem dX18_init_16 : decode cX18_init 16 = .ok (.putfield 16, 3) := dk_181 0 16 (dk_at dksX18_init_0 16 rfl rfl)
theorem dX18_init_19 : decode cX18_init 19 = .ok (.aload_n 0, 1) := dk_42 (dk_at dksX18_init_0 19 rfl rfl)
theorem dX18_init_20 : decode cX18_init 20 = .ok (.iload 4, 2) := dk_21 4 (dk_at dksX18_init_0 20 rfl rfl)
theorem dX18_init_22 : decode cX18_init 22 = .ok (.putfield 19, 3) := dk_181 0 19 (dk_at dksX18_init_1 0 rfl rfl)
theorem dX18_init_25 : decode cX18_init 25 = .ok (.aload_n 0, 1) := dk_42 (dk_at dksX18_init_1 3 rfl rfl)
theorem dX18_init_26 : decode cX18_init 26 = .ok (.iload 5, 2) := dk_21 5 (dk_at dksX18_init_1 4 rfl rfl)
theorem dX18_init_28 : decode cX18_init 28 = .ok (.putfield 22, 3) := dk_181 0 22 (dk_at dksX18_init_1 6 rfl rfl)
theorem dX18_init_31 : decode cX18_init 31 = .ok (.return_, 1) := dk_177 (dk_at dksX18_init_1 9 rfl rfl)
theorem q135 : (Jvm.Cond.initialized "EndingTown$Saying") ∈ lw_all := lw_g (lw_at lw_m1 36 rfl) rfl
theorem q594 : (Jvm.Cond.selects "EndingTown$Saying" ({ cls := "java/lang/Object", name := "getClass", desc := "()Ljava/lang/Class;" } : Jvm.MethodName) ({ cls := "java/lang/Object", name := "getClass", desc := "()Ljava/lang/Class;" } : Jvm.MethodName)) ∈ lw_all := lw_g (lw_at lw_m3 15 rfl) rfl
theorem q1173 : (Jvm.Cond.instantiable "EndingTown$Saying" (5 : Nat)) ∈ lw_all := lw_g (lw_at lw_m5 114 rfl) rfl
theorem q1175 : (Jvm.Cond.instanceMethod ({ cls := "EndingTown$Saying", name := "<init>", desc := "(IIIIZ)V" } : Jvm.MethodName)) ∈ lw_all := lw_g (lw_at lw_m5 116 rfl) rfl
theorem q1176 : (Jvm.Cond.code ({ cls := "EndingTown$Saying", name := "<init>", desc := "(IIIIZ)V" } : Jvm.MethodName) prog_11_method_1_code (6 : Nat) (Option.none : Option Jvm.ClassFile.FieldType)) ∈ lw_all := lw_g (lw_at lw_m5 117 rfl) rfl
theorem q1177 : (Jvm.Cond.methodLink "EndingTown$Saying" (1 : Nat) ({ cls := "java/lang/Object", name := "<init>", desc := "()V" } : Jvm.MethodName)) ∈ lw_all := lw_g (lw_at lw_m5 118 rfl) rfl
theorem q1178 : (Jvm.Cond.fieldLink "EndingTown$Saying" (7 : Nat) "EndingTown$Saying" "person" "I") ∈ lw_all := lw_g (lw_at lw_m5 119 rfl) rfl
theorem q1182 : (Jvm.Cond.fieldLink "EndingTown$Saying" (13 : Nat) "EndingTown$Saying" "hour" "I") ∈ lw_all := lw_g (lw_at lw_m5 123 rfl) rfl
theorem q1186 : (Jvm.Cond.fieldLink "EndingTown$Saying" (16 : Nat) "EndingTown$Saying" "thing" "I") ∈ lw_all := lw_g (lw_at lw_m5 127 rfl) rfl
theorem q1190 : (Jvm.Cond.fieldLink "EndingTown$Saying" (19 : Nat) "EndingTown$Saying" "how" "I") ∈ lw_all := lw_g (lw_at lw_m5 131 rfl) rfl
theorem q1193 : (Jvm.Cond.fieldLink "EndingTown$Saying" (22 : Nat) "EndingTown$Saying" "not" "Z") ∈ lw_all := lw_g (lw_at lw_m5 134 rfl) rfl
theorem q1197 : (Jvm.Cond.laysFinal "EndingTown$Saying" "EndingTown$Saying" "person" "I") ∈ lw_all := lw_g (lw_at lw_m5 138 rfl) rfl
theorem q1198 : (Jvm.Cond.soleField "EndingTown$Saying" "person") ∈ lw_all := lw_g (lw_at lw_m5 139 rfl) rfl
theorem q1199 : (Jvm.Cond.laysFinal "EndingTown$Saying" "EndingTown$Saying" "hour" "I") ∈ lw_all := lw_g (lw_at lw_m5 140 rfl) rfl
theorem q1200 : (Jvm.Cond.soleField "EndingTown$Saying" "hour") ∈ lw_all := lw_g (lw_at lw_m5 141 rfl) rfl
theorem q1201 : (Jvm.Cond.laysFinal "EndingTown$Saying" "EndingTown$Saying" "thing" "I") ∈ lw_all := lw_g (lw_at lw_m5 142 rfl) rfl
theorem q1202 : (Jvm.Cond.soleField "EndingTown$Saying" "thing") ∈ lw_all := lw_g (lw_at lw_m5 143 rfl) rfl
theorem q1203 : (Jvm.Cond.laysFinal "EndingTown$Saying" "EndingTown$Saying" "how" "I") ∈ lw_all := lw_g (lw_at lw_m5 144 rfl) rfl
theorem q1204 : (Jvm.Cond.soleField "EndingTown$Saying" "how") ∈ lw_all := lw_g (lw_at lw_m5 145 rfl) rfl
theorem q1205 : (Jvm.Cond.laysFinal "EndingTown$Saying" "EndingTown$Saying" "not" "Z") ∈ lw_all := lw_g (lw_at lw_m5 146 rfl) rfl
theorem q1206 : (Jvm.Cond.soleField "EndingTown$Saying" "not") ∈ lw_all := lw_g (lw_at lw_m5 147 rfl) rfl
theorem q1207 : (Jvm.Cond.superclass "EndingTown$Saying" "java/lang/Object") ∈ lw_all := lw_g (lw_at lw_m5 148 rfl) rfl
theorem q1943 : (Jvm.Cond.castable "EndingTown$Saying" "java/lang/Object") ∈ lw_tbl := lw_at lw_m8 164 rfl
theorem in_X18 : ∀ w ∈ wsX180, w ∈ lw_all := lw_in wsX180 [1197, 1199, 1201, 1203, 1205] (by decide +kernel) (by decide +kernel)
/-! EndingTown$Village -/
set_option maxRecDepth 100000
def RX2 : String := "EndingTown$Village"
def TX2 : u_T := fun k => match k with
  | 0 => ("EndingTown$Village", "stems", "Ljava/util/List;", true)
  | 1 => ("EndingTown$Village", "endings", "[LEndingTown$Letters;", true)
  | 2 => ("EndingTown$Village", "changes", "Ljava/util/List;", true)
  | 3 => ("EndingTown$Village", "things", "Ljava/util/List;", true)
  | 4 => ("EndingTown$Village", "rules", "Ljava/util/List;", true)
  | 5 => ("EndingTown$Village", "near", "[I", true)
  | 6 => ("EndingTown$Village", "move", "[I", true)
  | 7 => ("EndingTown$Village", "chance", "[I", true)
  | 8 => ("EndingTown$Village", "not", "LEndingTown$Letters;", false)
  | 9 => ("EndingTown$Village", "places", "I", false)
  | _ => ("EndingTown$Village", "people", "I", false)
def tyX2 : Nat → FieldType := fun k => match k with
  | 0 => .object "java/util/List"
  | 1 => .array (.object "EndingTown$Letters")
  | 2 => .object "java/util/List"
  | 3 => .object "java/util/List"
  | 4 => .object "java/util/List"
  | 5 => .array .int
  | 6 => .array .int
  | 7 => .array .int
  | 8 => .object "EndingTown$Letters"
  | 9 => .int
  | _ => .int
abbrev wsX20 : List Cond := u_ws RX2 TX2 11
theorem nmX2 : ∀ a, a < 11 → ∀ b, b < 11 → a ≠ b → (TX2 a).2.1 ≠ (TX2 b).2.1 := by decide +kernel
theorem tyX2_ok : ∀ k, k < 11 → parseFieldDescriptor (TX2 k).2.2.1 = some (tyX2 k) := by decide +kernel
abbrev cX2_init : ByteArray := prog_15_method_1_code
def yX2_init : MethodName := ⟨RX2, "<init>", "()V"⟩
def dkwX2_init_5 : List UInt8 := [162, 0, 18, 42, 180, 0, 40, 27, 17, 1, 244, 79, 132, 1, 1, 167, 255, 235, 177]
abbrev dktX2_init_5 : List UInt8 := dkwX2_init_5 ++ []
def dkwX2_init_4 : List UInt8 := [162, 0, 16, 42, 180, 0, 37, 27, 2, 79, 132, 1, 1, 167, 255, 237, 3, 60, 27, 42, 180, 0, 40, 190]
abbrev dktX2_init_4 : List UInt8 := dkwX2_init_4 ++ dktX2_init_5
def dkwX2_init_3 : List UInt8 := [181, 0, 37, 42, 16, 10, 188, 10, 181, 0, 40, 42, 4, 181, 0, 43, 3, 60, 27, 42, 180, 0, 37, 190]
abbrev dktX2_init_3 : List UInt8 := dkwX2_init_3 ++ dktX2_init_4
def dkwX2_init_2 : List UInt8 := [187, 0, 9, 89, 183, 0, 11, 181, 0, 30, 42, 16, 6, 188, 10, 181, 0, 33, 42, 17, 0, 144, 188, 10]
abbrev dktX2_init_2 : List UInt8 := dkwX2_init_2 ++ dktX2_init_3
def dkwX2_init_1 : List UInt8 := [42, 187, 0, 9, 89, 183, 0, 11, 181, 0, 24, 42, 187, 0, 9, 89, 183, 0, 11, 181, 0, 27, 42]
abbrev dktX2_init_1 : List UInt8 := dkwX2_init_1 ++ dktX2_init_2
def dkwX2_init_0 : List UInt8 := [42, 183, 0, 3, 42, 187, 0, 9, 89, 183, 0, 11, 181, 0, 12, 42, 16, 15, 189, 0, 18, 181, 0, 20]
abbrev dktX2_init_0 : List UInt8 := dkwX2_init_0 ++ dktX2_init_1
theorem dksX2_init_0 : cX2_init.data.toList.drop 0 = dktX2_init_0 := by decide +kernel
theorem dksX2_init_1 : cX2_init.data.toList.drop 24 = dktX2_init_1 := dk_seg dksX2_init_0 24 rfl rfl
theorem dksX2_init_2 : cX2_init.data.toList.drop 47 = dktX2_init_2 := dk_seg dksX2_init_1 23 rfl rfl
theorem dksX2_init_3 : cX2_init.data.toList.drop 71 = dktX2_init_3 := dk_seg dksX2_init_2 24 rfl rfl
theorem dksX2_init_4 : cX2_init.data.toList.drop 95 = dktX2_init_4 := dk_seg dksX2_init_3 24 rfl rfl
theorem dksX2_init_5 : cX2_init.data.toList.drop 119 = dktX2_init_5 := dk_seg dksX2_init_4 24 rfl rfl
theorem dX2_init_0 : decode cX2_init 0 = .ok (.aload_n 0, 1) := dk_42 (dk_at dksX2_init_0 0 rfl rfl)
theorem dX2_init_1 : decode cX2_init 1 = .ok (.invokespecial 3, 3) := dk_183 0 3 (dk_at dksX2_init_0 1 rfl rfl)
theorem dX2_init_4 : decode cX2_init 4 = .ok (.aload_n 0, 1) := dk_42 (dk_at dksX2_init_0 4 rfl rfl)
theorem dX2_init_5 : decode cX2_init 5 = .ok (.new 9, 3) := dk_187 0 9 (dk_at dksX2_init_0 5 rfl rfl)
theorem dX2_init_8 : decode cX2_init 8 = .ok (.dup, 1) := dk_89 (dk_at dksX2_init_0 8 rfl rfl)
theorem dX2_init_9 : decode cX2_init 9 = .ok (.invokespecial 11, 3) := dk_183 0 11 (dk_at dksX2_init_0 9 rfl rfl)
theorem dX2_init_12 : decode cX2_init 12 = .ok (.putfield 12, 3) := dk_181 0 12 (dk_at dksX2_init_0 12 rfl rfl)
theorem dX2_init_15 : decode cX2_init 15 = .ok (.aload_n 0, 1) := dk_42 (dk_at dksX2_init_0 15 rfl rfl)
theorem dX2_init_16 : decode cX2_init 16 = .ok (.bipush 15, 2) := dk_16 15 (dk_at dksX2_init_0 16 rfl rfl)
theorem dX2_init_18 : decode cX2_init 18 = .ok (.anewarray 18, 3) := dk_189 0 18 (dk_at dksX2_init_0 18 rfl rfl)
theorem dX2_init_21 : decode cX2_init 21 = .ok (.putfield 20, 3) := dk_181 0 20 (dk_at dksX2_init_0 21 rfl rfl)
theorem dX2_init_24 : decode cX2_init 24 = .ok (.aload_n 0, 1) := dk_42 (dk_at dksX2_init_1 0 rfl rfl)
theorem dX2_init_25 : decode cX2_init 25 = .ok (.new 9, 3) := dk_187 0 9 (dk_at dksX2_init_1 1 rfl rfl)
theorem dX2_init_28 : decode cX2_init 28 = .ok (.dup, 1) := dk_89 (dk_at dksX2_init_1 4 rfl rfl)
theorem dX2_init_29 : decode cX2_init 29 = .ok (.invokespecial 11, 3) := dk_183 0 11 (dk_at dksX2_init_1 5 rfl rfl)
theorem dX2_init_32 : decode cX2_init 32 = .ok (.putfield 24, 3) := dk_181 0 24 (dk_at dksX2_init_1 8 rfl rfl)
theorem dX2_init_35 : decode cX2_init 35 = .ok (.aload_n 0, 1) := dk_42 (dk_at dksX2_init_1 11 rfl rfl)
theorem dX2_init_36 : decode cX2_init 36 = .ok (.new 9, 3) := dk_187 0 9 (dk_at dksX2_init_1 12 rfl rfl)
theorem dX2_init_39 : decode cX2_init 39 = .ok (.dup, 1) := dk_89 (dk_at dksX2_init_1 15 rfl rfl)
theorem dX2_init_40 : decode cX2_init 40 = .ok (.invokespecial 11, 3) := dk_183 0 11 (dk_at dksX2_init_1 16 rfl rfl)
theorem dX2_init_43 : decode cX2_init 43 = .ok (.putfield 27, 3) := dk_181 0 27 (dk_at dksX2_init_1 19 rfl rfl)
theorem dX2_init_46 : decode cX2_init 46 = .ok (.aload_n 0, 1) := dk_42 (dk_at dksX2_init_1 22 rfl rfl)
theorem dX2_init_47 : decode cX2_init 47 = .ok (.new 9, 3) := dk_187 0 9 (dk_at dksX2_init_2 0 rfl rfl)
theorem dX2_init_50 : decode cX2_init 50 = .ok (.dup, 1) := dk_89 (dk_at dksX2_init_2 3 rfl rfl)
theorem dX2_init_51 : decode cX2_init 51 = .ok (.invokespecial 11, 3) := dk_183 0 11 (dk_at dksX2_init_2 4 rfl rfl)
theorem dX2_init_54 : decode cX2_init 54 = .ok (.putfield 30, 3) := dk_181 0 30 (dk_at dksX2_init_2 7 rfl rfl)
theorem dX2_init_57 : decode cX2_init 57 = .ok (.aload_n 0, 1) := dk_42 (dk_at dksX2_init_2 10 rfl rfl)
theorem dX2_init_58 : decode cX2_init 58 = .ok (.bipush 6, 2) := dk_16 6 (dk_at dksX2_init_2 11 rfl rfl)
theorem dX2_init_60 : decode cX2_init 60 = .ok (.newarray .int, 2) := dk_188_10 (dk_at dksX2_init_2 13 rfl rfl)
theorem dX2_init_62 : decode cX2_init 62 = .ok (.putfield 33, 3) := dk_181 0 33 (dk_at dksX2_init_2 15 rfl rfl)
theorem dX2_init_65 : decode cX2_init 65 = .ok (.aload_n 0, 1) := dk_42 (dk_at dksX2_init_2 18 rfl rfl)
theorem dX2_init_66 : decode cX2_init 66 = .ok (.sipush 144, 3) := dk_17 0 144 (dk_at dksX2_init_2 19 rfl rfl)
theorem dX2_init_69 : decode cX2_init 69 = .ok (.newarray .int, 2) := dk_188_10 (dk_at dksX2_init_2 22 rfl rfl)
theorem dX2_init_71 : decode cX2_init 71 = .ok (.putfield 37, 3) := dk_181 0 37 (dk_at dksX2_init_3 0 rfl rfl)
theorem dX2_init_74 : decode cX2_init 74 = .ok (.aload_n 0, 1) := dk_42 (dk_at dksX2_init_3 3 rfl rfl)
theorem dX2_init_75 : decode cX2_init 75 = .ok (.bipush 10, 2) := dk_16 10 (dk_at dksX2_init_3 4 rfl rfl)
theorem dX2_init_77 : decode cX2_init 77 = .ok (.newarray .int, 2) := dk_188_10 (dk_at dksX2_init_3 6 rfl rfl)
theorem dX2_init_79 : decode cX2_init 79 = .ok (.putfield 40, 3) := dk_181 0 40 (dk_at dksX2_init_3 8 rfl rfl)
theorem dX2_init_82 : decode cX2_init 82 = .ok (.aload_n 0, 1) := dk_42 (dk_at dksX2_init_3 11 rfl rfl)
theorem dX2_init_83 : decode cX2_init 83 = .ok (.iconst 1, 1) := dk_4 (dk_at dksX2_init_3 12 rfl rfl)
theorem dX2_init_84 : decode cX2_init 84 = .ok (.putfield 43, 3) := dk_181 0 43 (dk_at dksX2_init_3 13 rfl rfl)
theorem dX2_init_87 : decode cX2_init 87 = .ok (.iconst 0, 1) := dk_3 (dk_at dksX2_init_3 16 rfl rfl)
theorem dX2_init_88 : decode cX2_init 88 = .ok (.istore_n 1, 1) := dk_60 (dk_at dksX2_init_3 17 rfl rfl)
theorem dX2_init_89 : decode cX2_init 89 = .ok (.iload_n 1, 1) := dk_27 (dk_at dksX2_init_3 18 rfl rfl)
theorem dX2_init_90 : decode cX2_init 90 = .ok (.aload_n 0, 1) := dk_42 (dk_at dksX2_init_3 19 rfl rfl)
theorem dX2_init_91 : decode cX2_init 91 = .ok (.getfield 37, 3) := dk_180 0 37 (dk_at dksX2_init_3 20 rfl rfl)
theorem dX2_init_94 : decode cX2_init 94 = .ok (.arraylength, 1) := dk_190 (dk_at dksX2_init_3 23 rfl rfl)
theorem dX2_init_95 : decode cX2_init 95 = .ok (.if_icmp .ge 16, 3) := dk_162 0 16 (dk_at dksX2_init_4 0 rfl rfl)
theorem dX2_init_98 : decode cX2_init 98 = .ok (.aload_n 0, 1) := dk_42 (dk_at dksX2_init_4 3 rfl rfl)
theorem dX2_init_99 : decode cX2_init 99 = .ok (.getfield 37, 3) := dk_180 0 37 (dk_at dksX2_init_4 4 rfl rfl)
theorem dX2_init_102 : decode cX2_init 102 = .ok (.iload_n 1, 1) := dk_27 (dk_at dksX2_init_4 7 rfl rfl)
theorem dX2_init_103 : decode cX2_init 103 = .ok (.iconst (-1), 1) := dk_2 (dk_at dksX2_init_4 8 rfl rfl)
theorem dX2_init_104 : decode cX2_init 104 = .ok (.iastore, 1) := dk_79 (dk_at dksX2_init_4 9 rfl rfl)
theorem dX2_init_105 : decode cX2_init 105 = .ok (.iinc 1 1, 3) := dk_132 1 1 (dk_at dksX2_init_4 10 rfl rfl)
theorem dX2_init_108 : decode cX2_init 108 = .ok (.goto (-19), 3) := dk_167 255 237 (dk_at dksX2_init_4 13 rfl rfl)
theorem dX2_init_111 : decode cX2_init 111 = .ok (.iconst 0, 1) := dk_3 (dk_at dksX2_init_4 16 rfl rfl)
theorem dX2_init_112 : decode cX2_init 112 = .ok (.istore_n 1, 1) := dk_60 (dk_at dksX2_init_4 17 rfl rfl)
theorem dX2_init_113 : decode cX2_init 113 = .ok (.iload_n 1, 1) := dk_27 (dk_at dksX2_init_4 18 rfl rfl)
theorem dX2_init_114 : decode cX2_init 114 = .ok (.aload_n 0, 1) := dk_42 (dk_at dksX2_init_4 19 rfl rfl)
theorem dX2_init_115 : decode cX2_init 115 = .ok (.getfield 40, 3) := dk_180 0 40 (dk_at dksX2_init_4 20 rfl rfl)
theorem dX2_init_118 : decode cX2_init 118 = .ok (.arraylength, 1) := dk_190 (dk_at dksX2_init_4 23 rfl rfl)
theorem dX2_init_119 : decode cX2_init 119 = .ok (.if_icmp .ge 18, 3) := dk_162 0 18 (dk_at dksX2_init_5 0 rfl rfl)
theorem dX2_init_122 : decode cX2_init 122 = .ok (.aload_n 0, 1) := dk_42 (dk_at dksX2_init_5 3 rfl rfl)
theorem dX2_init_123 : decode cX2_init 123 = .ok (.getfield 40, 3) := dk_180 0 40 (dk_at dksX2_init_5 4 rfl rfl)
theorem dX2_init_126 : decode cX2_init 126 = .ok (.iload_n 1, 1) := dk_27 (dk_at dksX2_init_5 7 rfl rfl)
theorem dX2_init_127 : decode cX2_init 127 = .ok (.sipush 500, 3) := dk_17 1 244 (dk_at dksX2_init_5 8 rfl rfl)
theorem dX2_init_130 : decode cX2_init 130 = .ok (.iastore, 1) := dk_79 (dk_at dksX2_init_5 11 rfl rfl)
theorem dX2_init_131 : decode cX2_init 131 = .ok (.iinc 1 1, 3) := dk_132 1 1 (dk_at dksX2_init_5 12 rfl rfl)
theorem dX2_init_134 : decode cX2_init 134 = .ok (.goto (-21), 3) := dk_167 255 235 (dk_at dksX2_init_5 15 rfl rfl)
theorem dX2_init_137 : decode cX2_init 137 = .ok (.return_, 1) := dk_177 (dk_at dksX2_init_5 18 rfl rfl)
abbrev cX2_where : ByteArray := prog_15_method_2_code
def yX2_where : MethodName := ⟨RX2, "where", "(II)I"⟩
def dkwX2_where_1 : List UInt8 := [180, 0, 37, 16, 24, 27, 104, 29, 96, 46, 172, 132, 3, 255, 167, 255, 222, 3, 172]
abbrev dktX2_where_1 : List UInt8 := dkwX2_where_1 ++ []
def dkwX2_where_0 : List UInt8 := [28, 62, 29, 155, 0, 36, 42, 180, 0, 37, 16, 24, 27, 104, 29, 96, 46, 2, 159, 0, 15, 42]
abbrev dktX2_where_0 : List UInt8 := dkwX2_where_0 ++ dktX2_where_1
theorem dksX2_where_0 : cX2_where.data.toList.drop 0 = dktX2_where_0 := by decide +kernel
theorem dksX2_where_1 : cX2_where.data.toList.drop 22 = dktX2_where_1 := dk_seg dksX2_where_0 22 rfl rfl
theorem dX2_where_0 : decode cX2_where 0 = .ok (.iload_n 2, 1) := dk_28 (dk_at dksX2_where_0 0 rfl rfl)
theorem dX2_where_1 : decode cX2_where 1 = .ok (.istore_n 3, 1) := dk_62 (dk_at dksX2_where_0 1 rfl rfl)
theorem dX2_where_2 : decode cX2_where 2 = .ok (.iload_n 3, 1) := dk_29 (dk_at dksX2_where_0 2 rfl rfl)
theorem dX2_where_3 : decode cX2_where 3 = .ok (.ifCond .lt 36, 3) := dk_155 0 36 (dk_at dksX2_where_0 3 rfl rfl)
theorem dX2_where_6 : decode cX2_where 6 = .ok (.aload_n 0, 1) := dk_42 (dk_at dksX2_where_0 6 rfl rfl)
theorem dX2_where_7 : decode cX2_where 7 = .ok (.getfield 37, 3) := dk_180 0 37 (dk_at dksX2_where_0 7 rfl rfl)
theorem dX2_where_10 : decode cX2_where 10 = .ok (.bipush 24, 2) := dk_16 24 (dk_at dksX2_where_0 10 rfl rfl)
theorem dX2_where_12 : decode cX2_where 12 = .ok (.iload_n 1, 1) := dk_27 (dk_at dksX2_where_0 12 rfl rfl)
theorem dX2_where_13 : decode cX2_where 13 = .ok (.imul, 1) := dk_104 (dk_at dksX2_where_0 13 rfl rfl)
theorem dX2_where_14 : decode cX2_where 14 = .ok (.iload_n 3, 1) := dk_29 (dk_at dksX2_where_0 14 rfl rfl)
theorem dX2_where_15 : decode cX2_where 15 = .ok (.iadd, 1) := dk_96 (dk_at dksX2_where_0 15 rfl rfl)
theorem dX2_where_16 : decode cX2_where 16 = .ok (.iaload, 1) := dk_46 (dk_at dksX2_where_0 16 rfl rfl)
theorem dX2_where_17 : decode cX2_where 17 = .ok (.iconst (-1), 1) := dk_2 (dk_at dksX2_where_0 17 rfl rfl)
theorem dX2_where_18 : decode cX2_where 18 = .ok (.if_icmp .eq 15, 3) := dk_159 0 15 (dk_at dksX2_where_0 18 rfl rfl)
theorem dX2_where_21 : decode cX2_where 21 = .ok (.aload_n 0, 1) := dk_42 (dk_at dksX2_where_0 21 rfl rfl)
theorem dX2_where_22 : decode cX2_where 22 = .ok (.getfield 37, 3) := dk_180 0 37 (dk_at dksX2_where_1 0 rfl rfl)
theorem dX2_where_25 : decode cX2_where 25 = .ok (.bipush 24, 2) := dk_16 24 (dk_at dksX2_where_1 3 rfl rfl)
theorem dX2_where_27 : decode cX2_where 27 = .ok (.iload_n 1, 1) := dk_27 (dk_at dksX2_where_1 5 rfl rfl)
theorem dX2_where_28 : decode cX2_where 28 = .ok (.imul, 1) := dk_104 (dk_at dksX2_where_1 6 rfl rfl)
theorem dX2_where_29 : decode cX2_where 29 = .ok (.iload_n 3, 1) := dk_29 (dk_at dksX2_where_1 7 rfl rfl)
theorem dX2_where_30 : decode cX2_where 30 = .ok (.iadd, 1) := dk_96 (dk_at dksX2_where_1 8 rfl rfl)
theorem dX2_where_31 : decode cX2_where 31 = .ok (.iaload, 1) := dk_46 (dk_at dksX2_where_1 9 rfl rfl)
theorem dX2_where_32 : decode cX2_where 32 = .ok (.ireturn, 1) := dk_172 (dk_at dksX2_where_1 10 rfl rfl)
theorem dX2_where_33 : decode cX2_where 33 = .ok (.iinc 3 (-1), 3) := dk_132 3 255 (dk_at dksX2_where_1 11 rfl rfl)
theorem dX2_where_36 : decode cX2_where 36 = .ok (.goto (-34), 3) := dk_167 255 222 (dk_at dksX2_where_1 14 rfl rfl)
theorem dX2_where_39 : decode cX2_where 39 = .ok (.iconst 0, 1) := dk_3 (dk_at dksX2_where_1 17 rfl rfl)
theorem dX2_where_40 : decode cX2_where 40 = .ok (.ireturn, 1) := dk_172 (dk_at dksX2_where_1 18 rfl rfl)
abbrev cX2_thingOf : ByteArray := prog_15_method_3_code
def yX2_thingOf : MethodName := ⟨RX2, "thingOf", "(I)I"⟩
def dkwX2_thingOf_2 : List UInt8 := [172]
abbrev dktX2_thingOf_2 : List UInt8 := dkwX2_thingOf_2 ++ []
def dkwX2_thingOf_1 : List UInt8 := [185, 0, 53, 2, 0, 192, 0, 57, 180, 0, 59, 27, 160, 0, 5, 28, 172, 132, 2, 1, 167, 255, 218, 2]
abbrev dktX2_thingOf_1 : List UInt8 := dkwX2_thingOf_1 ++ dktX2_thingOf_2
def dkwX2_thingOf_0 : List UInt8 := [3, 61, 28, 42, 180, 0, 27, 185, 0, 47, 1, 0, 162, 0, 31, 42, 180, 0, 27, 28]
abbrev dktX2_thingOf_0 : List UInt8 := dkwX2_thingOf_0 ++ dktX2_thingOf_1
theorem dksX2_thingOf_0 : cX2_thingOf.data.toList.drop 0 = dktX2_thingOf_0 := by decide +kernel
theorem dksX2_thingOf_1 : cX2_thingOf.data.toList.drop 20 = dktX2_thingOf_1 := dk_seg dksX2_thingOf_0 20 rfl rfl
theorem dksX2_thingOf_2 : cX2_thingOf.data.toList.drop 44 = dktX2_thingOf_2 := dk_seg dksX2_thingOf_1 24 rfl rfl
theorem dX2_thingOf_0 : decode cX2_thingOf 0 = .ok (.iconst 0, 1) := dk_3 (dk_at dksX2_thingOf_0 0 rfl rfl)
theorem dX2_thingOf_1 : decode cX2_thingOf 1 = .ok (.istore_n 2, 1) := dk_61 (dk_at dksX2_thingOf_0 1 rfl rfl)
theorem dX2_thingOf_2 : decode cX2_thingOf 2 = .ok (.iload_n 2, 1) := dk_28 (dk_at dksX2_thingOf_0 2 rfl rfl)
theorem dX2_thingOf_3 : decode cX2_thingOf 3 = .ok (.aload_n 0, 1) := dk_42 (dk_at dksX2_thingOf_0 3 rfl rfl)
theorem dX2_thingOf_4 : decode cX2_thingOf 4 = .ok (.getfield 27, 3) := dk_180 0 27 (dk_at dksX2_thingOf_0 4 rfl rfl)
theorem dX2_thingOf_7 : decode cX2_thingOf 7 = .ok (.invokeinterface 47 1, 5) := by decide +kernel
theorem dX2_thingOf_12 : decode cX2_thingOf 12 = .ok (.if_icmp .ge 31, 3) := dk_162 0 31 (dk_at dksX2_thingOf_0 12 rfl rfl)
theorem dX2_thingOf_15 : decode cX2_thingOf 15 = .ok (.aload_n 0, 1) := dk_42 (dk_at dksX2_thingOf_0 15 rfl rfl)
theorem dX2_thingOf_16 : decode cX2_thingOf 16 = .ok (.getfield 27, 3) := dk_180 0 27 (dk_at dksX2_thingOf_0 16 rfl rfl)
theorem dX2_thingOf_19 : decode cX2_thingOf 19 = .ok (.iload_n 2, 1) := dk_28 (dk_at dksX2_thingOf_0 19 rfl rfl)
theorem dX2_thingOf_20 : decode cX2_thingOf 20 = .ok (.invokeinterface 53 2, 5) := by decide +kernel
theorem dX2_thingOf_25 : decode cX2_thingOf 25 = .ok (.checkcast 57, 3) := dk_192 0 57 (dk_at dksX2_thingOf_1 5 rfl rfl)
theorem dX2_thingOf_28 : decode cX2_thingOf 28 = .ok (.getfield 59, 3) := dk_180 0 59 (dk_at dksX2_thingOf_1 8 rfl rfl)
theorem dX2_thingOf_31 : decode cX2_thingOf 31 = .ok (.iload_n 1, 1) := dk_27 (dk_at dksX2_thingOf_1 11 rfl rfl)
theorem dX2_thingOf_32 : decode cX2_thingOf 32 = .ok (.if_icmp .ne 5, 3) := dk_160 0 5 (dk_at dksX2_thingOf_1 12 rfl rfl)
theorem dX2_thingOf_35 : decode cX2_thingOf 35 = .ok (.iload_n 2, 1) := dk_28 (dk_at dksX2_thingOf_1 15 rfl rfl)
theorem dX2_thingOf_36 : decode cX2_thingOf 36 = .ok (.ireturn, 1) := dk_172 (dk_at dksX2_thingOf_1 16 rfl rfl)
theorem dX2_thingOf_37 : decode cX2_thingOf 37 = .ok (.iinc 2 1, 3) := dk_132 2 1 (dk_at dksX2_thingOf_1 17 rfl rfl)
theorem dX2_thingOf_40 : decode cX2_thingOf 40 = .ok (.goto (-38), 3) := dk_167 255 218 (dk_at dksX2_thingOf_1 20 rfl rfl)
theorem dX2_thingOf_43 : decode cX2_thingOf 43 = .ok (.iconst (-1), 1) := dk_2 (dk_at dksX2_thingOf_1 23 rfl rfl)
theorem dX2_thingOf_44 : decode cX2_thingOf 44 = .ok (.ireturn, 1) := dk_172 (dk_at dksX2_thingOf_2 0 rfl rfl)
abbrev cX2_word : ByteArray := prog_15_method_4_code
def yX2_word : MethodName := ⟨RX2, "word", "(III)LEndingTown$Letters;"⟩
def dkwX2_word_12 : List UInt8 := [180, 0, 76, 190, 182, 0, 86, 87, 25, 9, 176]
abbrev dktX2_word_12 : List UInt8 := dkwX2_word_12 ++ []
def dkwX2_word_11 : List UInt8 := [180, 0, 80, 180, 0, 76, 190, 182, 0, 86, 54, 10, 25, 5, 25, 9, 21, 10, 21, 8, 25, 5]
abbrev dktX2_word_11 : List UInt8 := dkwX2_word_11 ++ dktX2_word_12
def dkwX2_word_10 : List UInt8 := [100, 182, 0, 86, 54, 10, 25, 6, 198, 0, 27, 25, 6, 180, 0, 80, 25, 9, 21, 10, 3, 25, 6]
abbrev dktX2_word_10 : List UInt8 := dkwX2_word_10 ++ dktX2_word_11
def dkwX2_word_9 : List UInt8 := [190, 96, 21, 8, 100, 183, 0, 83, 58, 9, 25, 4, 25, 9, 3, 3, 25, 4, 180, 0, 76, 190, 21, 7]
abbrev dktX2_word_9 : List UInt8 := dkwX2_word_9 ++ dktX2_word_10
def dkwX2_word_8 : List UInt8 := [25, 6, 199, 0, 7, 3, 167, 0, 12, 25, 6, 180, 0, 80, 180, 0, 76, 190, 96, 25, 5, 180, 0, 76]
abbrev dktX2_word_8 : List UInt8 := dkwX2_word_8 ++ dktX2_word_9
def dkwX2_word_7 : List UInt8 := [25, 6, 180, 0, 71, 180, 0, 76, 190, 54, 8, 187, 0, 18, 89, 25, 4, 180, 0, 76, 190, 21, 7, 100]
abbrev dktX2_word_7 : List UInt8 := dkwX2_word_7 ++ dktX2_word_8
def dkwX2_word_6 : List UInt8 := [167, 0, 12, 25, 6, 180, 0, 64, 180, 0, 76, 190, 54, 7, 25, 6, 199, 0, 7, 3, 167, 0, 12]
abbrev dktX2_word_6 : List UInt8 := dkwX2_word_6 ++ dktX2_word_7
def dkwX2_word_5 : List UInt8 := [21, 7, 185, 0, 53, 2, 0, 192, 0, 62, 58, 6, 132, 7, 1, 167, 255, 168, 25, 6, 199, 0, 7, 3]
abbrev dktX2_word_5 : List UInt8 := dkwX2_word_5 ++ dktX2_word_6
def dkwX2_word_4 : List UInt8 := [185, 0, 53, 2, 0, 192, 0, 62, 180, 0, 71, 25, 5, 182, 0, 74, 153, 0, 19, 42, 180, 0, 24]
abbrev dktX2_word_4 : List UInt8 := dkwX2_word_4 ++ dktX2_word_5
def dkwX2_word_3 : List UInt8 := [192, 0, 62, 180, 0, 64, 25, 4, 182, 0, 68, 153, 0, 44, 42, 180, 0, 24, 21, 7]
abbrev dktX2_word_3 : List UInt8 := dkwX2_word_3 ++ dktX2_word_4
def dkwX2_word_2 : List UInt8 := [185, 0, 47, 1, 0, 162, 0, 80, 25, 6, 199, 0, 75, 42, 180, 0, 24, 21, 7, 185, 0, 53, 2, 0]
abbrev dktX2_word_2 : List UInt8 := dkwX2_word_2 ++ dktX2_word_3
def dkwX2_word_1 : List UInt8 := [50, 58, 5, 25, 5, 199, 0, 5, 1, 176, 1, 58, 6, 3, 54, 7, 21, 7, 42, 180, 0, 24]
abbrev dktX2_word_1 : List UInt8 := dkwX2_word_1 ++ dktX2_word_2
def dkwX2_word_0 : List UInt8 := [42, 180, 0, 12, 27, 185, 0, 53, 2, 0, 192, 0, 18, 58, 4, 42, 180, 0, 20, 8, 28, 104, 29, 96]
abbrev dktX2_word_0 : List UInt8 := dkwX2_word_0 ++ dktX2_word_1
theorem dksX2_word_0 : cX2_word.data.toList.drop 0 = dktX2_word_0 := by decide +kernel
theorem dksX2_word_1 : cX2_word.data.toList.drop 24 = dktX2_word_1 := dk_seg dksX2_word_0 24 rfl rfl
theorem dksX2_word_2 : cX2_word.data.toList.drop 46 = dktX2_word_2 := dk_seg dksX2_word_1 22 rfl rfl
theorem dksX2_word_3 : cX2_word.data.toList.drop 70 = dktX2_word_3 := dk_seg dksX2_word_2 24 rfl rfl
theorem dksX2_word_4 : cX2_word.data.toList.drop 90 = dktX2_word_4 := dk_seg dksX2_word_3 20 rfl rfl
theorem dksX2_word_5 : cX2_word.data.toList.drop 113 = dktX2_word_5 := dk_seg dksX2_word_4 23 rfl rfl
theorem dksX2_word_6 : cX2_word.data.toList.drop 137 = dktX2_word_6 := dk_seg dksX2_word_5 24 rfl rfl
theorem dksX2_word_7 : cX2_word.data.toList.drop 160 = dktX2_word_7 := dk_seg dksX2_word_6 23 rfl rfl
theorem dksX2_word_8 : cX2_word.data.toList.drop 184 = dktX2_word_8 := dk_seg dksX2_word_7 24 rfl rfl
theorem dksX2_word_9 : cX2_word.data.toList.drop 208 = dktX2_word_9 := dk_seg dksX2_word_8 24 rfl rfl
theorem dksX2_word_10 : cX2_word.data.toList.drop 232 = dktX2_word_10 := dk_seg dksX2_word_9 24 rfl rfl
theorem dksX2_word_11 : cX2_word.data.toList.drop 255 = dktX2_word_11 := dk_seg dksX2_word_10 23 rfl rfl
theorem dksX2_word_12 : cX2_word.data.toList.drop 277 = dktX2_word_12 := dk_seg dksX2_word_11 22 rfl rfl
theorem dX2_word_0 : decode cX2_word 0 = .ok (.aload_n 0, 1) := dk_42 (dk_at dksX2_word_0 0 rfl rfl)
theorem dX2_word_1 : decode cX2_word 1 = .ok (.getfield 12, 3) := dk_180 0 12 (dk_at dksX2_word_0 1 rfl rfl)
theorem dX2_word_4 : decode cX2_word 4 = .ok (.iload_n 1, 1) := dk_27 (dk_at dksX2_word_0 4 rfl rfl)
theorem dX2_word_5 : decode cX2_word 5 = .ok (.invokeinterface 53 2, 5) := by decide +kernel
theorem dX2_word_10 : decode cX2_word 10 = .ok (.checkcast 18, 3) := dk_192 0 18 (dk_at dksX2_word_0 10 rfl rfl)
theorem dX2_word_13 : decode cX2_word 13 = .ok (.astore 4, 2) := dk_58 4 (dk_at dksX2_word_0 13 rfl rfl)
theorem dX2_word_15 : decode cX2_word 15 = .ok (.aload_n 0, 1) := dk_42 (dk_at dksX2_word_0 15 rfl rfl)
theorem dX2_word_16 : decode cX2_word 16 = .ok (.getfield 20, 3) := dk_180 0 20 (dk_at dksX2_word_0 16 rfl rfl)
theorem dX2_word_19 : decode cX2_word 19 = .ok (.iconst 5, 1) := dk_8 (dk_at dksX2_word_0 19 rfl rfl)
theorem dX2_word_20 : decode cX2_word 20 = .ok (.iload_n 2, 1) := dk_28 (dk_at dksX2_word_0 20 rfl rfl)
theorem dX2_word_21 : decode cX2_word 21 = .ok (.imul, 1) := dk_104 (dk_at dksX2_word_0 21 rfl rfl)
theorem dX2_word_22 : decode cX2_word 22 = .ok (.iload_n 3, 1) := dk_29 (dk_at dksX2_word_0 22 rfl rfl)
theorem dX2_word_23 : decode cX2_word 23 = .ok (.iadd, 1) := dk_96 (dk_at dksX2_word_0 23 rfl rfl)
theorem dX2_word_24 : decode cX2_word 24 = .ok (.aaload, 1) := dk_50 (dk_at dksX2_word_1 0 rfl rfl)
theorem dX2_word_25 : decode cX2_word 25 = .ok (.astore 5, 2) := dk_58 5 (dk_at dksX2_word_1 1 rfl rfl)
theorem dX2_word_27 : decode cX2_word 27 = .ok (.aload 5, 2) := dk_25 5 (dk_at dksX2_word_1 3 rfl rfl)
theorem dX2_word_29 : decode cX2_word 29 = .ok (.ifnonnull 5, 3) := dk_199 0 5 (dk_at dksX2_word_1 5 rfl rfl)
theorem dX2_word_32 : decode cX2_word 32 = .ok (.aconst_null, 1) := dk_1 (dk_at dksX2_word_1 8 rfl rfl)
theorem dX2_word_33 : decode cX2_word 33 = .ok (.areturn, 1) := dk_176 (dk_at dksX2_word_1 9 rfl rfl)
theorem dX2_word_34 : decode cX2_word 34 = .ok (.aconst_null, 1) := dk_1 (dk_at dksX2_word_1 10 rfl rfl)
theorem dX2_word_35 : decode cX2_word 35 = .ok (.astore 6, 2) := dk_58 6 (dk_at dksX2_word_1 11 rfl rfl)
theorem dX2_word_37 : decode cX2_word 37 = .ok (.iconst 0, 1) := dk_3 (dk_at dksX2_word_1 13 rfl rfl)
theorem dX2_word_38 : decode cX2_word 38 = .ok (.istore 7, 2) := dk_54 7 (dk_at dksX2_word_1 14 rfl rfl)
theorem dX2_word_40 : decode cX2_word 40 = .ok (.iload 7, 2) := dk_21 7 (dk_at dksX2_word_1 16 rfl rfl)
theorem dX2_word_42 : decode cX2_word 42 = .ok (.aload_n 0, 1) := dk_42 (dk_at dksX2_word_1 18 rfl rfl)
theorem dX2_word_43 : decode cX2_word 43 = .ok (.getfield 24, 3) := dk_180 0 24 (dk_at dksX2_word_1 19 rfl rfl)
theorem dX2_word_46 : decode cX2_word 46 = .ok (.invokeinterface 47 1, 5) := by decide +kernel
theorem dX2_word_51 : decode cX2_word 51 = .ok (.if_icmp .ge 80, 3) := dk_162 0 80 (dk_at dksX2_word_2 5 rfl rfl)
theorem dX2_word_54 : decode cX2_word 54 = .ok (.aload 6, 2) := dk_25 6 (dk_at dksX2_word_2 8 rfl rfl)
theorem dX2_word_56 : decode cX2_word 56 = .ok (.ifnonnull 75, 3) := dk_199 0 75 (dk_at dksX2_word_2 10 rfl rfl)
theorem dX2_word_59 : decode cX2_word 59 = .ok (.aload_n 0, 1) := dk_42 (dk_at dksX2_word_2 13 rfl rfl)
theorem dX2_word_60 : decode cX2_word 60 = .ok (.getfield 24, 3) := dk_180 0 24 (dk_at dksX2_word_2 14 rfl rfl)
theorem dX2_word_63 : decode cX2_word 63 = .ok (.iload 7, 2) := dk_21 7 (dk_at dksX2_word_2 17 rfl rfl)
theorem dX2_word_65 : decode cX2_word 65 = .ok (.invokeinterface 53 2, 5) := by decide +kernel
theorem dX2_word_70 : decode cX2_word 70 = .ok (.checkcast 62, 3) := dk_192 0 62 (dk_at dksX2_word_3 0 rfl rfl)
theorem dX2_word_73 : decode cX2_word 73 = .ok (.getfield 64, 3) := dk_180 0 64 (dk_at dksX2_word_3 3 rfl rfl)
theorem dX2_word_76 : decode cX2_word 76 = .ok (.aload 4, 2) := dk_25 4 (dk_at dksX2_word_3 6 rfl rfl)
theorem dX2_word_78 : decode cX2_word 78 = .ok (.invokevirtual 68, 3) := dk_182 0 68 (dk_at dksX2_word_3 8 rfl rfl)
theorem dX2_word_81 : decode cX2_word 81 = .ok (.ifCond .eq 44, 3) := dk_153 0 44 (dk_at dksX2_word_3 11 rfl rfl)
theorem dX2_word_84 : decode cX2_word 84 = .ok (.aload_n 0, 1) := dk_42 (dk_at dksX2_word_3 14 rfl rfl)
theorem dX2_word_85 : decode cX2_word 85 = .ok (.getfield 24, 3) := dk_180 0 24 (dk_at dksX2_word_3 15 rfl rfl)
theorem dX2_word_88 : decode cX2_word 88 = .ok (.iload 7, 2) := dk_21 7 (dk_at dksX2_word_3 18 rfl rfl)
theorem dX2_word_90 : decode cX2_word 90 = .ok (.invokeinterface 53 2, 5) := by decide +kernel
theorem dX2_word_95 : decode cX2_word 95 = .ok (.checkcast 62, 3) := dk_192 0 62 (dk_at dksX2_word_4 5 rfl rfl)
theorem dX2_word_98 : decode cX2_word 98 = .ok (.getfield 71, 3) := dk_180 0 71 (dk_at dksX2_word_4 8 rfl rfl)
theorem dX2_word_101 : decode cX2_word 101 = .ok (.aload 5, 2) := dk_25 5 (dk_at dksX2_word_4 11 rfl rfl)
theorem dX2_word_103 : decode cX2_word 103 = .ok (.invokevirtual 74, 3) := dk_182 0 74 (dk_at dksX2_word_4 13 rfl rfl)
theorem dX2_word_106 : decode cX2_word 106 = .ok (.ifCond .eq 19, 3) := dk_153 0 19 (dk_at dksX2_word_4 16 rfl rfl)
theorem dX2_word_109 : decode cX2_word 109 = .ok (.aload_n 0, 1) := dk_42 (dk_at dksX2_word_4 19 rfl rfl)
theorem dX2_word_110 : decode cX2_word 110 = .ok (.getfield 24, 3) := dk_180 0 24 (dk_at dksX2_word_4 20 rfl rfl)
theorem dX2_word_113 : decode cX2_word 113 = .ok (.iload 7, 2) := dk_21 7 (dk_at dksX2_word_5 0 rfl rfl)
theorem dX2_word_115 : decode cX2_word 115 = .ok (.invokeinterface 53 2, 5) := by decide +kernel
theorem dX2_word_120 : decode cX2_word 120 = .ok (.checkcast 62, 3) := dk_192 0 62 (dk_at dksX2_word_5 7 rfl rfl)
theorem dX2_word_123 : decode cX2_word 123 = .ok (.astore 6, 2) := dk_58 6 (dk_at dksX2_word_5 10 rfl rfl)
theorem dX2_word_125 : decode cX2_word 125 = .ok (.iinc 7 1, 3) := dk_132 7 1 (dk_at dksX2_word_5 12 rfl rfl)
theorem dX2_word_128 : decode cX2_word 128 = .ok (.goto (-88), 3) := dk_167 255 168 (dk_at dksX2_word_5 15 rfl rfl)
theorem dX2_word_131 : decode cX2_word 131 = .ok (.aload 6, 2) := dk_25 6 (dk_at dksX2_word_5 18 rfl rfl)
theorem dX2_word_133 : decode cX2_word 133 = .ok (.ifnonnull 7, 3) := dk_199 0 7 (dk_at dksX2_word_5 20 rfl rfl)
theorem dX2_word_136 : decode cX2_word 136 = .ok (.iconst 0, 1) := dk_3 (dk_at dksX2_word_5 23 rfl rfl)
theorem dX2_word_137 : decode cX2_word 137 = .ok (.goto 12, 3) := dk_167 0 12 (dk_at dksX2_word_6 0 rfl rfl)
theorem dX2_word_140 : decode cX2_word 140 = .ok (.aload 6, 2) := dk_25 6 (dk_at dksX2_word_6 3 rfl rfl)
theorem dX2_word_142 : decode cX2_word 142 = .ok (.getfield 64, 3) := dk_180 0 64 (dk_at dksX2_word_6 5 rfl rfl)
theorem dX2_word_145 : decode cX2_word 145 = .ok (.getfield 76, 3) := dk_180 0 76 (dk_at dksX2_word_6 8 rfl rfl)
theorem dX2_word_148 : decode cX2_word 148 = .ok (.arraylength, 1) := dk_190 (dk_at dksX2_word_6 11 rfl rfl)
theorem dX2_word_149 : decode cX2_word 149 = .ok (.istore 7, 2) := dk_54 7 (dk_at dksX2_word_6 12 rfl rfl)
theorem dX2_word_151 : decode cX2_word 151 = .ok (.aload 6, 2) := dk_25 6 (dk_at dksX2_word_6 14 rfl rfl)
theorem dX2_word_153 : decode cX2_word 153 = .ok (.ifnonnull 7, 3) := dk_199 0 7 (dk_at dksX2_word_6 16 rfl rfl)
theorem dX2_word_156 : decode cX2_word 156 = .ok (.iconst 0, 1) := dk_3 (dk_at dksX2_word_6 19 rfl rfl)
theorem dX2_word_157 : decode cX2_word 157 = .ok (.goto 12, 3) := dk_167 0 12 (dk_at dksX2_word_6 20 rfl rfl)
theorem dX2_word_160 : decode cX2_word 160 = .ok (.aload 6, 2) := dk_25 6 (dk_at dksX2_word_7 0 rfl rfl)
theorem dX2_word_162 : decode cX2_word 162 = .ok (.getfield 71, 3) := dk_180 0 71 (dk_at dksX2_word_7 2 rfl rfl)
theorem dX2_word_165 : decode cX2_word 165 = .ok (.getfield 76, 3) := dk_180 0 76 (dk_at dksX2_word_7 5 rfl rfl)
theorem dX2_word_168 : decode cX2_word 168 = .ok (.arraylength, 1) := dk_190 (dk_at dksX2_word_7 8 rfl rfl)
theorem dX2_word_169 : decode cX2_word 169 = .ok (.istore 8, 2) := dk_54 8 (dk_at dksX2_word_7 9 rfl rfl)
theorem dX2_word_171 : decode cX2_word 171 = .ok (.new 18, 3) := dk_187 0 18 (dk_at dksX2_word_7 11 rfl rfl)
theorem dX2_word_174 : decode cX2_word 174 = .ok (.dup, 1) := dk_89 (dk_at dksX2_word_7 14 rfl rfl)
theorem dX2_word_175 : decode cX2_word 175 = .ok (.aload 4, 2) := dk_25 4 (dk_at dksX2_word_7 15 rfl rfl)
theorem dX2_word_177 : decode cX2_word 177 = .ok (.getfield 76, 3) := dk_180 0 76 (dk_at dksX2_word_7 17 rfl rfl)
theorem dX2_word_180 : decode cX2_word 180 = .ok (.arraylength, 1) := dk_190 (dk_at dksX2_word_7 20 rfl rfl)
theorem dX2_word_181 : decode cX2_word 181 = .ok (.iload 7, 2) := dk_21 7 (dk_at dksX2_word_7 21 rfl rfl)
theorem dX2_word_183 : decode cX2_word 183 = .ok (.isub, 1) := dk_100 (dk_at dksX2_word_7 23 rfl rfl)
theorem dX2_word_184 : decode cX2_word 184 = .ok (.aload 6, 2) := dk_25 6 (dk_at dksX2_word_8 0 rfl rfl)
theorem dX2_word_186 : decode cX2_word 186 = .ok (.ifnonnull 7, 3) := dk_199 0 7 (dk_at dksX2_word_8 2 rfl rfl)
theorem dX2_word_189 : decode cX2_word 189 = .ok (.iconst 0, 1) := dk_3 (dk_at dksX2_word_8 5 rfl rfl)
theorem dX2_word_190 : decode cX2_word 190 = .ok (.goto 12, 3) := dk_167 0 12 (dk_at dksX2_word_8 6 rfl rfl)
theorem dX2_word_193 : decode cX2_word 193 = .ok (.aload 6, 2) := dk_25 6 (dk_at dksX2_word_8 9 rfl rfl)
theorem dX2_word_195 : decode cX2_word 195 = .ok (.getfield 80, 3) := dk_180 0 80 (dk_at dksX2_word_8 11 rfl rfl)
theorem dX2_word_198 : decode cX2_word 198 = .ok (.getfield 76, 3) := dk_180 0 76 (dk_at dksX2_word_8 14 rfl rfl)
theorem dX2_word_201 : decode cX2_word 201 = .ok (.arraylength, 1) := dk_190 (dk_at dksX2_word_8 17 rfl rfl)
theorem dX2_word_202 : decode cX2_word 202 = .ok (.iadd, 1) := dk_96 (dk_at dksX2_word_8 18 rfl rfl)
theorem dX2_word_203 : decode cX2_word 203 = .ok (.aload 5, 2) := dk_25 5 (dk_at dksX2_word_8 19 rfl rfl)
theorem dX2_word_205 : decode cX2_word 205 = .ok (.getfield 76, 3) := dk_180 0 76 (dk_at dksX2_word_8 21 rfl rfl)
theorem dX2_word_208 : decode cX2_word 208 = .ok (.arraylength, 1) := dk_190 (dk_at dksX2_word_9 0 rfl rfl)
theorem dX2_word_209 : decode cX2_word 209 = .ok (.iadd, 1) := dk_96 (dk_at dksX2_word_9 1 rfl rfl)
theorem dX2_word_210 : decode cX2_word 210 = .ok (.iload 8, 2) := dk_21 8 (dk_at dksX2_word_9 2 rfl rfl)
theorem dX2_word_212 : decode cX2_word 212 = .ok (.isub, 1) := dk_100 (dk_at dksX2_word_9 4 rfl rfl)
theorem dX2_word_213 : decode cX2_word 213 = .ok (.invokespecial 83, 3) := dk_183 0 83 (dk_at dksX2_word_9 5 rfl rfl)
theorem dX2_word_216 : decode cX2_word 216 = .ok (.astore 9, 2) := dk_58 9 (dk_at dksX2_word_9 8 rfl rfl)
theorem dX2_word_218 : decode cX2_word 218 = .ok (.aload 4, 2) := dk_25 4 (dk_at dksX2_word_9 10 rfl rfl)
theorem dX2_word_220 : decode cX2_word 220 = .ok (.aload 9, 2) := dk_25 9 (dk_at dksX2_word_9 12 rfl rfl)
theorem dX2_word_222 : decode cX2_word 222 = .ok (.iconst 0, 1) := dk_3 (dk_at dksX2_word_9 14 rfl rfl)
theorem dX2_word_223 : decode cX2_word 223 = .ok (.iconst 0, 1) := dk_3 (dk_at dksX2_word_9 15 rfl rfl)
theorem dX2_word_224 : decode cX2_word 224 = .ok (.aload 4, 2) := dk_25 4 (dk_at dksX2_word_9 16 rfl rfl)
theorem dX2_word_226 : decode cX2_word 226 = .ok (.getfield 76, 3) := dk_180 0 76 (dk_at dksX2_word_9 18 rfl rfl)
theorem dX2_word_229 : decode cX2_word 229 = .ok (.arraylength, 1) := dk_190 (dk_at dksX2_word_9 21 rfl rfl)
theorem dX2_word_230 : decode cX2_word 230 = .ok (.iload 7, 2) := dk_21 7 (dk_at dksX2_word_9 22 rfl rfl)
theorem dX2_word_232 : decode cX2_word 232 = .ok (.isub, 1) := dk_100 (dk_at dksX2_word_10 0 rfl rfl)
theorem dX2_word_233 : decode cX2_word 233 = .ok (.invokevirtual 86, 3) := dk_182 0 86 (dk_at dksX2_word_10 1 rfl rfl)
theorem dX2_word_236 : decode cX2_word 236 = .ok (.istore 10, 2) := dk_54 10 (dk_at dksX2_word_10 4 rfl rfl)
theorem dX2_word_238 : decode cX2_word 238 = .ok (.aload 6, 2) := dk_25 6 (dk_at dksX2_word_10 6 rfl rfl)
theorem dX2_word_240 : decode cX2_word 240 = .ok (.ifnull 27, 3) := dk_198 0 27 (dk_at dksX2_word_10 8 rfl rfl)
theorem dX2_word_243 : decode cX2_word 243 = .ok (.aload 6, 2) := dk_25 6 (dk_at dksX2_word_10 11 rfl rfl)
theorem dX2_word_245 : decode cX2_word 245 = .ok (.getfield 80, 3) := dk_180 0 80 (dk_at dksX2_word_10 13 rfl rfl)
theorem dX2_word_248 : decode cX2_word 248 = .ok (.aload 9, 2) := dk_25 9 (dk_at dksX2_word_10 16 rfl rfl)
theorem dX2_word_250 : decode cX2_word 250 = .ok (.iload 10, 2) := dk_21 10 (dk_at dksX2_word_10 18 rfl rfl)
theorem dX2_word_252 : decode cX2_word 252 = .ok (.iconst 0, 1) := dk_3 (dk_at dksX2_word_10 20 rfl rfl)
theorem dX2_word_253 : decode cX2_word 253 = .ok (.aload 6, 2) := dk_25 6 (dk_at dksX2_word_10 21 rfl rfl)
theorem dX2_word_255 : decode cX2_word 255 = .ok (.getfield 80, 3) := dk_180 0 80 (dk_at dksX2_word_11 0 rfl rfl)
theorem dX2_word_258 : decode cX2_word 258 = .ok (.getfield 76, 3) := dk_180 0 76 (dk_at dksX2_word_11 3 rfl rfl)
theorem dX2_word_261 : decode cX2_word 261 = .ok (.arraylength, 1) := dk_190 (dk_at dksX2_word_11 6 rfl rfl)
theorem dX2_word_262 : decode cX2_word 262 = .ok (.invokevirtual 86, 3) := dk_182 0 86 (dk_at dksX2_word_11 7 rfl rfl)
theorem dX2_word_265 : decode cX2_word 265 = .ok (.istore 10, 2) := dk_54 10 (dk_at dksX2_word_11 10 rfl rfl)
theorem dX2_word_267 : decode cX2_word 267 = .ok (.aload 5, 2) := dk_25 5 (dk_at dksX2_word_11 12 rfl rfl)
theorem dX2_word_269 : decode cX2_word 269 = .ok (.aload 9, 2) := dk_25 9 (dk_at dksX2_word_11 14 rfl rfl)
theorem dX2_word_271 : decode cX2_word 271 = .ok (.iload 10, 2) := dk_21 10 (dk_at dksX2_word_11 16 rfl rfl)
theorem dX2_word_273 : decode cX2_word 273 = .ok (.iload 8, 2) := dk_21 8 (dk_at dksX2_word_11 18 rfl rfl)
theorem dX2_word_275 : decode cX2_word 275 = .ok (.aload 5, 2) := dk_25 5 (dk_at dksX2_word_11 20 rfl rfl)
theorem dX2_word_277 : decode cX2_word 277 = .ok (.getfield 76, 3) := dk_180 0 76 (dk_at dksX2_word_12 0 rfl rfl)
theorem dX2_word_280 : decode cX2_word 280 = .ok (.arraylength, 1) := dk_190 (dk_at dksX2_word_12 3 rfl rfl)
theorem dX2_word_281 : decode cX2_word 281 = .ok (.invokevirtual 86, 3) := dk_182 0 86 (dk_at dksX2_word_12 4 rfl rfl)
theorem dX2_word_284 : decode cX2_word 284 = .ok (.pop, 1) := dk_87 (dk_at dksX2_word_12 7 rfl rfl)
theorem dX2_word_285 : decode cX2_word 285 = .ok (.aload 9, 2) := dk_25 9 (dk_at dksX2_word_12 8 rfl rfl)
theorem dX2_word_287 : decode cX2_word 287 = .ok (.areturn, 1) := dk_176 (dk_at dksX2_word_12 10 rfl rfl)
theorem q101 : (Jvm.Cond.initialized "EndingTown$Village") ∈ lw_all := lw_g (lw_at lw_m1 2 rfl) rfl
theorem q145 : (Jvm.Cond.instantiable "EndingTown$Village" (11 : Nat)) ∈ lw_all := lw_g (lw_at lw_m1 46 rfl) rfl
theorem q147 : (Jvm.Cond.instanceMethod ({ cls := "EndingTown$Village", name := "<init>", desc := "()V" } : Jvm.MethodName)) ∈ lw_all := lw_g (lw_at lw_m1 48 rfl) rfl
theorem q148 : (Jvm.Cond.code ({ cls := "EndingTown$Village", name := "<init>", desc := "()V" } : Jvm.MethodName) prog_15_method_1_code (2 : Nat) (Option.none : Option Jvm.ClassFile.FieldType)) ∈ lw_all := lw_g (lw_at lw_m1 49 rfl) rfl
theorem q149 : (Jvm.Cond.methodLink "EndingTown$Village" (3 : Nat) ({ cls := "java/lang/Object", name := "<init>", desc := "()V" } : Jvm.MethodName)) ∈ lw_all := lw_g (lw_at lw_m1 50 rfl) rfl
theorem q150 : (Jvm.Cond.classLink "EndingTown$Village" (9 : Nat) "java/util/ArrayList") ∈ lw_all := lw_g (lw_at lw_m1 51 rfl) rfl
theorem q152 : (Jvm.Cond.methodLink "EndingTown$Village" (11 : Nat) ({ cls := "java/util/ArrayList", name := "<init>", desc := "()V" } : Jvm.MethodName)) ∈ lw_all := lw_g (lw_at lw_m1 53 rfl) rfl
theorem q176 : (Jvm.Cond.classLink "EndingTown$Village" (18 : Nat) "EndingTown$Letters") ∈ lw_all := lw_g (lw_at lw_m1 77 rfl) rfl
theorem q178 : (Jvm.Cond.fieldLink "EndingTown$Village" (12 : Nat) "EndingTown$Village" "stems" "Ljava/util/List;") ∈ lw_all := lw_g (lw_at lw_m1 79 rfl) rfl
theorem q181 : (Jvm.Cond.fieldLink "EndingTown$Village" (20 : Nat) "EndingTown$Village" "endings" "[LEndingTown$Letters;") ∈ lw_all := lw_g (lw_at lw_m1 82 rfl) rfl
theorem q183 : (Jvm.Cond.fieldLink "EndingTown$Village" (24 : Nat) "EndingTown$Village" "changes" "Ljava/util/List;") ∈ lw_all := lw_g (lw_at lw_m1 84 rfl) rfl
theorem q186 : (Jvm.Cond.fieldLink "EndingTown$Village" (27 : Nat) "EndingTown$Village" "things" "Ljava/util/List;") ∈ lw_all := lw_g (lw_at lw_m1 87 rfl) rfl
theorem q192 : (Jvm.Cond.fieldLink "EndingTown$Village" (30 : Nat) "EndingTown$Village" "rules" "Ljava/util/List;") ∈ lw_all := lw_g (lw_at lw_m1 93 rfl) rfl
theorem q196 : (Jvm.Cond.fieldLink "EndingTown$Village" (33 : Nat) "EndingTown$Village" "near" "[I") ∈ lw_all := lw_g (lw_at lw_m1 97 rfl) rfl
theorem q199 : (Jvm.Cond.fieldLink "EndingTown$Village" (37 : Nat) "EndingTown$Village" "move" "[I") ∈ lw_all := lw_g (lw_at lw_m1 100 rfl) rfl
theorem q201 : (Jvm.Cond.fieldLink "EndingTown$Village" (40 : Nat) "EndingTown$Village" "chance" "[I") ∈ lw_all := lw_g (lw_at lw_m1 102 rfl) rfl
theorem q206 : (Jvm.Cond.fieldLink "EndingTown$Village" (43 : Nat) "EndingTown$Village" "places" "I") ∈ lw_all := lw_g (lw_at lw_m1 107 rfl) rfl
theorem q211 : (Jvm.Cond.laysFinal "EndingTown$Village" "EndingTown$Village" "stems" "Ljava/util/List;") ∈ lw_all := lw_g (lw_at lw_m1 112 rfl) rfl
theorem q212 : (Jvm.Cond.soleField "EndingTown$Village" "stems") ∈ lw_all := lw_g (lw_at lw_m1 113 rfl) rfl
theorem q213 : (Jvm.Cond.laysFinal "EndingTown$Village" "EndingTown$Village" "endings" "[LEndingTown$Letters;") ∈ lw_all := lw_g (lw_at lw_m1 114 rfl) rfl
theorem q214 : (Jvm.Cond.soleField "EndingTown$Village" "endings") ∈ lw_all := lw_g (lw_at lw_m1 115 rfl) rfl
theorem q215 : (Jvm.Cond.laysFinal "EndingTown$Village" "EndingTown$Village" "changes" "Ljava/util/List;") ∈ lw_all := lw_g (lw_at lw_m1 116 rfl) rfl
theorem q216 : (Jvm.Cond.soleField "EndingTown$Village" "changes") ∈ lw_all := lw_g (lw_at lw_m1 117 rfl) rfl
theorem q217 : (Jvm.Cond.laysFinal "EndingTown$Village" "EndingTown$Village" "things" "Ljava/util/List;") ∈ lw_all := lw_g (lw_at lw_m1 118 rfl) rfl
theorem q218 : (Jvm.Cond.soleField "EndingTown$Village" "things") ∈ lw_all := lw_g (lw_at lw_m1 119 rfl) rfl
theorem q219 : (Jvm.Cond.laysFinal "EndingTown$Village" "EndingTown$Village" "rules" "Ljava/util/List;") ∈ lw_all := lw_g (lw_at lw_m1 120 rfl) rfl
theorem q220 : (Jvm.Cond.soleField "EndingTown$Village" "rules") ∈ lw_all := lw_g (lw_at lw_m1 121 rfl) rfl
theorem q221 : (Jvm.Cond.laysFinal "EndingTown$Village" "EndingTown$Village" "near" "[I") ∈ lw_all := lw_g (lw_at lw_m1 122 rfl) rfl
theorem q222 : (Jvm.Cond.soleField "EndingTown$Village" "near") ∈ lw_all := lw_g (lw_at lw_m1 123 rfl) rfl
theorem q223 : (Jvm.Cond.laysFinal "EndingTown$Village" "EndingTown$Village" "move" "[I") ∈ lw_all := lw_g (lw_at lw_m1 124 rfl) rfl
theorem q224 : (Jvm.Cond.soleField "EndingTown$Village" "move") ∈ lw_all := lw_g (lw_at lw_m1 125 rfl) rfl
theorem q225 : (Jvm.Cond.laysFinal "EndingTown$Village" "EndingTown$Village" "chance" "[I") ∈ lw_all := lw_g (lw_at lw_m1 126 rfl) rfl
theorem q226 : (Jvm.Cond.soleField "EndingTown$Village" "chance") ∈ lw_all := lw_g (lw_at lw_m1 127 rfl) rfl
theorem q227 : (Jvm.Cond.lays "EndingTown$Village" "EndingTown$Village" "not" "LEndingTown$Letters;") ∈ lw_all := lw_g (lw_at lw_m1 128 rfl) rfl
theorem q228 : (Jvm.Cond.soleField "EndingTown$Village" "not") ∈ lw_all := lw_g (lw_at lw_m1 129 rfl) rfl
theorem q229 : (Jvm.Cond.lays "EndingTown$Village" "EndingTown$Village" "places" "I") ∈ lw_all := lw_g (lw_at lw_m1 130 rfl) rfl
theorem q230 : (Jvm.Cond.soleField "EndingTown$Village" "places") ∈ lw_all := lw_g (lw_at lw_m1 131 rfl) rfl
theorem q231 : (Jvm.Cond.lays "EndingTown$Village" "EndingTown$Village" "people" "I") ∈ lw_all := lw_g (lw_at lw_m1 132 rfl) rfl
theorem q232 : (Jvm.Cond.soleField "EndingTown$Village" "people") ∈ lw_all := lw_g (lw_at lw_m1 133 rfl) rfl
theorem q233 : (Jvm.Cond.superclass "EndingTown$Village" "java/lang/Object") ∈ lw_all := lw_g (lw_at lw_m1 134 rfl) rfl
theorem q509 : (Jvm.Cond.instanceMethod ({ cls := "EndingTown$Village", name := "where", desc := "(II)I" } : Jvm.MethodName)) ∈ lw_all := lw_g (lw_at lw_m2 170 rfl) rfl
theorem q510 : (Jvm.Cond.selects "EndingTown$Village" ({ cls := "EndingTown$Village", name := "where", desc := "(II)I" } : Jvm.MethodName) ({ cls := "EndingTown$Village", name := "where", desc := "(II)I" } : Jvm.MethodName)) ∈ lw_all := lw_g (lw_at lw_m2 171 rfl) rfl
theorem q511 : (Jvm.Cond.code ({ cls := "EndingTown$Village", name := "where", desc := "(II)I" } : Jvm.MethodName) prog_15_method_2_code (4 : Nat) (Option.some Jvm.ClassFile.FieldType.int)) ∈ lw_all := lw_g (lw_at lw_m2 172 rfl) rfl
theorem q598 : (Jvm.Cond.selects "EndingTown$Village" ({ cls := "java/lang/Object", name := "getClass", desc := "()Ljava/lang/Class;" } : Jvm.MethodName) ({ cls := "java/lang/Object", name := "getClass", desc := "()Ljava/lang/Class;" } : Jvm.MethodName)) ∈ lw_all := lw_g (lw_at lw_m3 19 rfl) rfl
theorem q897 : (Jvm.Cond.fieldLinkNest "EndingTown$Village" (59 : Nat) "EndingTown$Thing" "stem" "I" "EndingTown") ∈ lw_tbl := lw_at lw_m4 78 rfl
theorem q927 : (Jvm.Cond.instanceMethod ({ cls := "EndingTown$Village", name := "thingOf", desc := "(I)I" } : Jvm.MethodName)) ∈ lw_all := lw_g (lw_at lw_m4 108 rfl) rfl
theorem q928 : (Jvm.Cond.selects "EndingTown$Village" ({ cls := "EndingTown$Village", name := "thingOf", desc := "(I)I" } : Jvm.MethodName) ({ cls := "EndingTown$Village", name := "thingOf", desc := "(I)I" } : Jvm.MethodName)) ∈ lw_all := lw_g (lw_at lw_m4 109 rfl) rfl
theorem q929 : (Jvm.Cond.code ({ cls := "EndingTown$Village", name := "thingOf", desc := "(I)I" } : Jvm.MethodName) prog_15_method_3_code (3 : Nat) (Option.some Jvm.ClassFile.FieldType.int)) ∈ lw_all := lw_g (lw_at lw_m4 110 rfl) rfl
theorem q930 : (Jvm.Cond.interfaceEntry "EndingTown$Village" (47 : Nat)) ∈ lw_tbl := lw_at lw_m4 111 rfl
theorem q931 : (Jvm.Cond.methodLink "EndingTown$Village" (47 : Nat) ({ cls := "java/util/List", name := "size", desc := "()I" } : Jvm.MethodName)) ∈ lw_all := lw_g (lw_at lw_m4 112 rfl) rfl
theorem q932 : (Jvm.Cond.interfaceEntry "EndingTown$Village" (53 : Nat)) ∈ lw_tbl := lw_at lw_m4 113 rfl
theorem q933 : (Jvm.Cond.methodLink "EndingTown$Village" (53 : Nat) ({ cls := "java/util/List", name := "get", desc := "(I)Ljava/lang/Object;" } : Jvm.MethodName)) ∈ lw_all := lw_g (lw_at lw_m4 114 rfl) rfl
theorem q934 : (Jvm.Cond.classLink "EndingTown$Village" (57 : Nat) "EndingTown$Thing") ∈ lw_all := lw_g (lw_at lw_m4 115 rfl) rfl
theorem q1024 : (Jvm.Cond.fieldLinkNest "EndingTown$Village" (76 : Nat) "EndingTown$Letters" "of" "[B" "EndingTown") ∈ lw_tbl := lw_at lw_m4 205 rfl
theorem q1046 : (Jvm.Cond.fieldLinkNest "EndingTown$Village" (64 : Nat) "EndingTown$Change" "ends" "LEndingTown$Letters;" "EndingTown") ∈ lw_tbl := lw_at lw_m4 227 rfl
theorem q1048 : (Jvm.Cond.fieldLinkNest "EndingTown$Village" (71 : Nat) "EndingTown$Change" "begins" "LEndingTown$Letters;" "EndingTown") ∈ lw_tbl := lw_at lw_m4 229 rfl
theorem q1050 : (Jvm.Cond.fieldLinkNest "EndingTown$Village" (80 : Nat) "EndingTown$Change" "to" "LEndingTown$Letters;" "EndingTown") ∈ lw_tbl := lw_at lw_m4 231 rfl
theorem q1122 : (Jvm.Cond.instanceMethod ({ cls := "EndingTown$Village", name := "word", desc := "(III)LEndingTown$Letters;" } : Jvm.MethodName)) ∈ lw_all := lw_g (lw_at lw_m5 63 rfl) rfl
theorem q1123 : (Jvm.Cond.selects "EndingTown$Village" ({ cls := "EndingTown$Village", name := "word", desc := "(III)LEndingTown$Letters;" } : Jvm.MethodName) ({ cls := "EndingTown$Village", name := "word", desc := "(III)LEndingTown$Letters;" } : Jvm.MethodName)) ∈ lw_all := lw_g (lw_at lw_m5 64 rfl) rfl
theorem q1124 : (Jvm.Cond.code ({ cls := "EndingTown$Village", name := "word", desc := "(III)LEndingTown$Letters;" } : Jvm.MethodName) prog_15_method_4_code (11 : Nat) (Option.some (Jvm.ClassFile.FieldType.object "EndingTown$Letters"))) ∈ lw_all := lw_g (lw_at lw_m5 65 rfl) rfl
theorem q1125 : (Jvm.Cond.classLink "EndingTown$Village" (62 : Nat) "EndingTown$Change") ∈ lw_all := lw_g (lw_at lw_m5 66 rfl) rfl
theorem q1126 : (Jvm.Cond.methodLink "EndingTown$Village" (68 : Nat) ({ cls := "EndingTown$Letters", name := "ends", desc := "(LEndingTown$Letters;)Z" } : Jvm.MethodName)) ∈ lw_all := lw_g (lw_at lw_m5 67 rfl) rfl
theorem q1130 : (Jvm.Cond.methodLink "EndingTown$Village" (74 : Nat) ({ cls := "EndingTown$Letters", name := "begins", desc := "(LEndingTown$Letters;)Z" } : Jvm.MethodName)) ∈ lw_all := lw_g (lw_at lw_m5 71 rfl) rfl
theorem q1134 : (Jvm.Cond.methodLink "EndingTown$Village" (83 : Nat) ({ cls := "EndingTown$Letters", name := "<init>", desc := "(I)V" } : Jvm.MethodName)) ∈ lw_all := lw_g (lw_at lw_m5 75 rfl) rfl
theorem q1137 : (Jvm.Cond.methodLink "EndingTown$Village" (86 : Nat) ({ cls := "EndingTown$Letters", name := "lay", desc := "(LEndingTown$Letters;III)I" } : Jvm.MethodName)) ∈ lw_all := lw_g (lw_at lw_m5 78 rfl) rfl
theorem q1927 : (Jvm.Cond.castable "EndingTown$Village" "java/lang/Object") ∈ lw_tbl := lw_at lw_m8 148 rfl
theorem in_X2 : ∀ w ∈ wsX20, w ∈ lw_all := lw_in wsX20 [211, 213, 215, 217, 219, 221, 223, 225, 227, 229, 231] (by decide +kernel) (by decide +kernel)
/-! EndingTown$How -/
set_option maxRecDepth 100000
def RX3 : String := "EndingTown$How"
abbrev cX3_init : ByteArray := prog_6_method_1_code
def yX3_init : MethodName := ⟨RX3, "<init>", "(LEndingTown;)V"⟩
def dkwX3_init_0 : List UInt8 := [42, 43, 181, 0, 1, 42, 183, 0, 7, 177]
abbrev dktX3_init_0 : List UInt8 := dkwX3_init_0 ++ []
theorem dksX3_init_0 : cX3_init.data.toList.drop 0 = dktX3_init_0 := by decide +kernel
theorem dX3_init_0 : decode cX3_init 0 = .ok (.aload_n 0, 1) := dk_42 (dk_at dksX3_init_0 0 rfl rfl)
theorem dX3_init_1 : decode cX3_init 1 = .ok (.aload_n 1, 1) := dk_43 (dk_at dksX3_init_0 1 rfl rfl)
theorem dX3_init_2 : decode cX3_init 2 = .ok (.putfield 1, 3) := dk_181 0 1 (dk_at dksX3_init_0 2 rfl rfl)
theorem dX3_init_5 : decode cX3_init 5 = .ok (.aload_n 0, 1) := dk_42 (dk_at dksX3_init_0 5 rfl rfl)
theorem dX3_init_6 : decode cX3_init 6 = .ok (.invokespecial 7, 3) := dk_183 0 7 (dk_at dksX3_init_0 6 rfl rfl)
theorem dX3_init_9 : decode cX3_init 9 = .ok (.return_, 1) := dk_177 (dk_at dksX3_init_0 9 rfl rfl)
theorem q105 : (Jvm.Cond.initialized "EndingTown$How") ∈ lw_all := lw_g (lw_at lw_m1 6 rfl) rfl
theorem q248 : (Jvm.Cond.instanceMethod ({ cls := "EndingTown$How", name := "<init>", desc := "(LEndingTown;)V" } : Jvm.MethodName)) ∈ lw_all := lw_g (lw_at lw_m1 149 rfl) rfl
theorem q249 : (Jvm.Cond.code ({ cls := "EndingTown$How", name := "<init>", desc := "(LEndingTown;)V" } : Jvm.MethodName) prog_6_method_1_code (2 : Nat) (Option.none : Option Jvm.ClassFile.FieldType)) ∈ lw_all := lw_g (lw_at lw_m1 150 rfl) rfl
theorem q250 : (Jvm.Cond.methodLink "EndingTown$How" (7 : Nat) ({ cls := "java/lang/Object", name := "<init>", desc := "()V" } : Jvm.MethodName)) ∈ lw_all := lw_g (lw_at lw_m1 151 rfl) rfl
theorem q253 : (Jvm.Cond.fieldLink "EndingTown$How" (1 : Nat) "EndingTown$How" "this$0" "LEndingTown;") ∈ lw_all := lw_g (lw_at lw_m1 154 rfl) rfl
theorem q259 : (Jvm.Cond.soleField "EndingTown$How" "this$0") ∈ lw_all := lw_g (lw_at lw_m1 160 rfl) rfl
theorem q497 : (Jvm.Cond.declares ({ cls := "EndingTown$How", name := "round", desc := "(LEndingTown$Day;IIIZ)I" } : Jvm.MethodName)) ∈ lw_tbl := lw_at lw_m2 158 rfl
theorem q498 : (Jvm.Cond.sameMethod "EndingTown$How" "EndingTown$How" "round" "(LEndingTown$Day;IIIZ)I") ∈ lw_all := lw_g (lw_at lw_m2 159 rfl) rfl
theorem q1248 : (Jvm.Cond.declares ({ cls := "EndingTown$How", name := "eyes", desc := "(LEndingTown$Day;IIIZI)I" } : Jvm.MethodName)) ∈ lw_tbl := lw_at lw_m5 189 rfl
theorem q1249 : (Jvm.Cond.sameMethod "EndingTown$How" "EndingTown$How" "eyes" "(LEndingTown$Day;IIIZI)I") ∈ lw_all := lw_g (lw_at lw_m5 190 rfl) rfl
theorem q1925 : (Jvm.Cond.castable "EndingTown$How" "java/lang/Object") ∈ lw_tbl := lw_at lw_m8 146 rfl
/-! EndingTown$Own -/
set_option maxRecDepth 100000
def RX4 : String := "EndingTown$Own"
abbrev cX4_init : ByteArray := prog_8_method_1_code
def yX4_init : MethodName := ⟨RX4, "<init>", "(LEndingTown;)V"⟩
def dkwX4_init_0 : List UInt8 := [42, 43, 181, 0, 1, 42, 43, 183, 0, 7, 177]
abbrev dktX4_init_0 : List UInt8 := dkwX4_init_0 ++ []
theorem dksX4_init_0 : cX4_init.data.toList.drop 0 = dktX4_init_0 := by decide +kernel
theorem dX4_init_0 : decode cX4_init 0 = .ok (.aload_n 0, 1) := dk_42 (dk_at dksX4_init_0 0 rfl rfl)
theorem dX4_init_1 : decode cX4_init 1 = .ok (.aload_n 1, 1) := dk_43 (dk_at dksX4_init_0 1 rfl rfl)
theorem dX4_init_2 : decode cX4_init 2 = .ok (.putfield 1, 3) := dk_181 0 1 (dk_at dksX4_init_0 2 rfl rfl)
theorem dX4_init_5 : decode cX4_init 5 = .ok (.aload_n 0, 1) := dk_42 (dk_at dksX4_init_0 5 rfl rfl)
theorem dX4_init_6 : decode cX4_init 6 = .ok (.aload_n 1, 1) := dk_43 (dk_at dksX4_init_0 6 rfl rfl)
theorem dX4_init_7 : decode cX4_init 7 = .ok (.invokespecial 7, 3) := dk_183 0 7 (dk_at dksX4_init_0 7 rfl rfl)
theorem dX4_init_10 : decode cX4_init 10 = .ok (.return_, 1) := dk_177 (dk_at dksX4_init_0 10 rfl rfl)
abbrev cX4_eyes : ByteArray := prog_8_method_2_code
def yX4_eyes : MethodName := ⟨RX4, "eyes", "(LEndingTown$Day;IIIZI)I"⟩
def dkwX4_eyes_0 : List UInt8 := [4, 28, 120, 172]
abbrev dktX4_eyes_0 : List UInt8 := dkwX4_eyes_0 ++ []
theorem dksX4_eyes_0 : cX4_eyes.data.toList.drop 0 = dktX4_eyes_0 := by decide +kernel
theorem dX4_eyes_0 : decode cX4_eyes 0 = .ok (.iconst 1, 1) := dk_4 (dk_at dksX4_eyes_0 0 rfl rfl)
theorem dX4_eyes_1 : decode cX4_eyes 1 = .ok (.iload_n 2, 1) := dk_28 (dk_at dksX4_eyes_0 1 rfl rfl)
theorem dX4_eyes_2 : decode cX4_eyes 2 = .ok (.ishl, 1) := dk_120 (dk_at dksX4_eyes_0 2 rfl rfl)
theorem dX4_eyes_3 : decode cX4_eyes 3 = .ok (.ireturn, 1) := dk_172 (dk_at dksX4_eyes_0 3 rfl rfl)
theorem q106 : (Jvm.Cond.initialized "EndingTown$Own") ∈ lw_all := lw_g (lw_at lw_m1 7 rfl) rfl
theorem q245 : (Jvm.Cond.instanceMethod ({ cls := "EndingTown$Own", name := "<init>", desc := "(LEndingTown;)V" } : Jvm.MethodName)) ∈ lw_all := lw_g (lw_at lw_m1 146 rfl) rfl
theorem q246 : (Jvm.Cond.code ({ cls := "EndingTown$Own", name := "<init>", desc := "(LEndingTown;)V" } : Jvm.MethodName) prog_8_method_1_code (2 : Nat) (Option.none : Option Jvm.ClassFile.FieldType)) ∈ lw_all := lw_g (lw_at lw_m1 147 rfl) rfl
theorem q247 : (Jvm.Cond.methodLinkNest "EndingTown$Own" (7 : Nat) ({ cls := "EndingTown$How", name := "<init>", desc := "(LEndingTown;)V" } : Jvm.MethodName) "EndingTown") ∈ lw_tbl := lw_at lw_m1 148 rfl
theorem q252 : (Jvm.Cond.fieldLink "EndingTown$Own" (1 : Nat) "EndingTown$Own" "this$0" "LEndingTown;") ∈ lw_all := lw_g (lw_at lw_m1 153 rfl) rfl
theorem q257 : (Jvm.Cond.soleField "EndingTown$Own" "this$0") ∈ lw_all := lw_g (lw_at lw_m1 158 rfl) rfl
theorem q1254 : (Jvm.Cond.instanceMethod ({ cls := "EndingTown$Own", name := "eyes", desc := "(LEndingTown$Day;IIIZI)I" } : Jvm.MethodName)) ∈ lw_all := lw_g (lw_at lw_m5 195 rfl) rfl
theorem q1255 : (Jvm.Cond.code ({ cls := "EndingTown$Own", name := "eyes", desc := "(LEndingTown$Day;IIIZI)I" } : Jvm.MethodName) prog_8_method_2_code (7 : Nat) (Option.some Jvm.ClassFile.FieldType.int)) ∈ lw_all := lw_g (lw_at lw_m5 196 rfl) rfl
/-! EndingTown$Seen -/
set_option maxRecDepth 100000
def RX5 : String := "EndingTown$Seen"
def TX5 : u_T := fun k => match k with
  | 0 => ("EndingTown$Own", "this$0", "LEndingTown;", true)
  | 1 => ("EndingTown$How", "this$0", "LEndingTown;", true)
  | _ => ("EndingTown$Seen", "this$0", "LEndingTown;", true)
def tyX5 : Nat → FieldType := fun k => match k with
  | 0 => .object "EndingTown"
  | 1 => .object "EndingTown"
  | _ => .object "EndingTown"
abbrev wsX50 : List Cond := u_ws RX5 TX5 3
-- two fields of one name: no nmX5
theorem tyX5_ok : ∀ k, k < 3 → parseFieldDescriptor (TX5 k).2.2.1 = some (tyX5 k) := by decide +kernel
abbrev cX5_init : ByteArray := prog_12_method_1_code
def yX5_init : MethodName := ⟨RX5, "<init>", "(LEndingTown;)V"⟩
def dkwX5_init_0 : List UInt8 := [42, 43, 181, 0, 1, 42, 43, 183, 0, 7, 177]
abbrev dktX5_init_0 : List UInt8 := dkwX5_init_0 ++ []
theorem dksX5_init_0 : cX5_init.data.toList.drop 0 = dktX5_init_0 := by decide +kernel
theorem dX5_init_0 : decode cX5_init 0 = .ok (.aload_n 0, 1) := dk_42 (dk_at dksX5_init_0 0 rfl rfl)
theorem dX5_init_1 : decode cX5_init 1 = .ok (.aload_n 1, 1) := dk_43 (dk_at dksX5_init_0 1 rfl rfl)
theorem dX5_init_2 : decode cX5_init 2 = .ok (.putfield 1, 3) := dk_181 0 1 (dk_at dksX5_init_0 2 rfl rfl)
theorem dX5_init_5 : decode cX5_init 5 = .ok (.aload_n 0, 1) := dk_42 (dk_at dksX5_init_0 5 rfl rfl)
theorem dX5_init_6 : decode cX5_init 6 = .ok (.aload_n 1, 1) := dk_43 (dk_at dksX5_init_0 6 rfl rfl)
theorem dX5_init_7 : decode cX5_init 7 = .ok (.invokespecial 7, 3) := dk_183 0 7 (dk_at dksX5_init_0 7 rfl rfl)
theorem dX5_init_10 : decode cX5_init 10 = .ok (.return_, 1) := dk_177 (dk_at dksX5_init_0 10 rfl rfl)
abbrev cX5_round : ByteArray := prog_12_method_2_code
def yX5_round : MethodName := ⟨RX5, "round", "(LEndingTown$Day;IIIZ)I"⟩
def dkwX5_round_2 : List UInt8 := [25, 6, 180, 0, 41, 160, 0, 17, 25, 6, 180, 0, 44, 21, 5, 160, 0, 7, 4, 167, 0, 4, 3, 172]
abbrev dktX5_round_2 : List UInt8 := dkwX5_round_2 ++ []
def dkwX5_round_1 : List UInt8 := [180, 0, 33, 29, 163, 0, 41, 42, 180, 0, 1, 180, 0, 13, 28, 25, 6, 180, 0, 33, 182, 0, 37]
abbrev dktX5_round_1 : List UInt8 := dkwX5_round_1 ++ dktX5_round_2
def dkwX5_round_0 : List UInt8 := [42, 180, 0, 1, 180, 0, 13, 180, 0, 19, 21, 4, 185, 0, 25, 2, 0, 192, 0, 31, 58, 6, 25, 6]
abbrev dktX5_round_0 : List UInt8 := dkwX5_round_0 ++ dktX5_round_1
theorem dksX5_round_0 : cX5_round.data.toList.drop 0 = dktX5_round_0 := by decide +kernel
theorem dksX5_round_1 : cX5_round.data.toList.drop 24 = dktX5_round_1 := dk_seg dksX5_round_0 24 rfl rfl
theorem dksX5_round_2 : cX5_round.data.toList.drop 47 = dktX5_round_2 := dk_seg dksX5_round_1 23 rfl rfl
theorem dX5_round_0 : decode cX5_round 0 = .ok (.aload_n 0, 1) := dk_42 (dk_at dksX5_round_0 0 rfl rfl)
theorem dX5_round_1 : decode cX5_round 1 = .ok (.getfield 1, 3) := dk_180 0 1 (dk_at dksX5_round_0 1 rfl rfl)
theorem dX5_round_4 : decode cX5_round 4 = .ok (.getfield 13, 3) := dk_180 0 13 (dk_at dksX5_round_0 4 rfl rfl)
theorem dX5_round_7 : decode cX5_round 7 = .ok (.getfield 19, 3) := dk_180 0 19 (dk_at dksX5_round_0 7 rfl rfl)
theorem dX5_round_10 : decode cX5_round 10 = .ok (.iload 4, 2) := dk_21 4 (dk_at dksX5_round_0 10 rfl rfl)
theorem dX5_round_12 : decode cX5_round 12 = .ok (.invokeinterface 25 2, 5) := by decide +kernel
theorem dX5_round_17 : decode cX5_round 17 = .ok (.checkcast 31, 3) := dk_192 0 31 (dk_at dksX5_round_0 17 rfl rfl)
theorem dX5_round_20 : decode cX5_round 20 = .ok (.astore 6, 2) := dk_58 6 (dk_at dksX5_round_0 20 rfl rfl)
theorem dX5_round_22 : decode cX5_round 22 = .ok (.aload 6, 2) := dk_25 6 (dk_at dksX5_round_0 22 rfl rfl)
theorem dX5_round_24 : decode cX5_round 24 = .ok (.getfield 33, 3) := dk_180 0 33 (dk_at dksX5_round_1 0 rfl rfl)
theorem dX5_round_27 : decode cX5_round 27 = .ok (.iload_n 3, 1) := dk_29 (dk_at dksX5_round_1 3 rfl rfl)
theorem dX5_round_28 : decode cX5_round 28 = .ok (.if_icmp .gt 41, 3) := dk_163 0 41 (dk_at dksX5_round_1 4 rfl rfl)
theorem dX5_round_31 : decode cX5_round 31 = .ok (.aload_n 0, 1) := dk_42 (dk_at dksX5_round_1 7 rfl rfl)
theorem dX5_round_32 : decode cX5_round 32 = .ok (.getfield 1, 3) := dk_180 0 1 (dk_at dksX5_round_1 8 rfl rfl)
theorem dX5_round_35 : decode cX5_round 35 = .ok (.getfield 13, 3) := dk_180 0 13 (dk_at dksX5_round_1 11 rfl rfl)
theorem dX5_round_38 : decode cX5_round 38 = .ok (.iload_n 2, 1) := dk_28 (dk_at dksX5_round_1 14 rfl rfl)
theorem dX5_round_39 : decode cX5_round 39 = .ok (.aload 6, 2) := dk_25 6 (dk_at dksX5_round_1 15 rfl rfl)
theorem dX5_round_41 : decode cX5_round 41 = .ok (.getfield 33, 3) := dk_180 0 33 (dk_at dksX5_round_1 17 rfl rfl)
theorem dX5_round_44 : decode cX5_round 44 = .ok (.invokevirtual 37, 3) := dk_182 0 37 (dk_at dksX5_round_1 20 rfl rfl)
theorem dX5_round_47 : decode cX5_round 47 = .ok (.aload 6, 2) := dk_25 6 (dk_at dksX5_round_2 0 rfl rfl)
theorem dX5_round_49 : decode cX5_round 49 = .ok (.getfield 41, 3) := dk_180 0 41 (dk_at dksX5_round_2 2 rfl rfl)
theorem dX5_round_52 : decode cX5_round 52 = .ok (.if_icmp .ne 17, 3) := dk_160 0 17 (dk_at dksX5_round_2 5 rfl rfl)
theorem dX5_round_55 : decode cX5_round 55 = .ok (.aload 6, 2) := dk_25 6 (dk_at dksX5_round_2 8 rfl rfl)
theorem dX5_round_57 : decode cX5_round 57 = .ok (.getfield 44, 3) := dk_180 0 44 (dk_at dksX5_round_2 10 rfl rfl)
theorem dX5_round_60 : decode cX5_round 60 = .ok (.iload 5, 2) := dk_21 5 (dk_at dksX5_round_2 13 rfl rfl)
theorem dX5_round_62 : decode cX5_round 62 = .ok (.if_icmp .ne 7, 3) := dk_160 0 7 (dk_at dksX5_round_2 15 rfl rfl)
theorem dX5_round_65 : decode cX5_round 65 = .ok (.iconst 1, 1) := dk_4 (dk_at dksX5_round_2 18 rfl rfl)
theorem dX5_round_66 : decode cX5_round 66 = .ok (.goto 4, 3) := dk_167 0 4 (dk_at dksX5_round_2 19 rfl rfl)
theorem dX5_round_69 : decode cX5_round 69 = .ok (.iconst 0, 1) := dk_3 (dk_at dksX5_round_2 22 rfl rfl)
theorem dX5_round_70 : decode cX5_round 70 = .ok (.ireturn, 1) := dk_172 (dk_at dksX5_round_2 23 rfl rfl)
theorem q107 : (Jvm.Cond.initialized "EndingTown$Seen") ∈ lw_all := lw_g (lw_at lw_m1 8 rfl) rfl
theorem q188 : (Jvm.Cond.fieldLinkNest "EndingTown$Seen" (19 : Nat) "EndingTown$Village" "things" "Ljava/util/List;" "EndingTown") ∈ lw_tbl := lw_at lw_m1 89 rfl
theorem q240 : (Jvm.Cond.instantiable "EndingTown$Seen" (3 : Nat)) ∈ lw_all := lw_g (lw_at lw_m1 141 rfl) rfl
theorem q242 : (Jvm.Cond.instanceMethod ({ cls := "EndingTown$Seen", name := "<init>", desc := "(LEndingTown;)V" } : Jvm.MethodName)) ∈ lw_all := lw_g (lw_at lw_m1 143 rfl) rfl
theorem q243 : (Jvm.Cond.code ({ cls := "EndingTown$Seen", name := "<init>", desc := "(LEndingTown;)V" } : Jvm.MethodName) prog_12_method_1_code (2 : Nat) (Option.none : Option Jvm.ClassFile.FieldType)) ∈ lw_all := lw_g (lw_at lw_m1 144 rfl) rfl
theorem q244 : (Jvm.Cond.methodLinkNest "EndingTown$Seen" (7 : Nat) ({ cls := "EndingTown$Own", name := "<init>", desc := "(LEndingTown;)V" } : Jvm.MethodName) "EndingTown") ∈ lw_tbl := lw_at lw_m1 145 rfl
theorem q251 : (Jvm.Cond.fieldLink "EndingTown$Seen" (1 : Nat) "EndingTown$Seen" "this$0" "LEndingTown;") ∈ lw_all := lw_g (lw_at lw_m1 152 rfl) rfl
theorem q254 : (Jvm.Cond.laysFinal "EndingTown$Seen" "EndingTown$Seen" "this$0" "LEndingTown;") ∈ lw_all := lw_g (lw_at lw_m1 155 rfl) rfl
theorem q255 : (Jvm.Cond.soleField "EndingTown$Seen" "this$0") ∈ lw_all := lw_g (lw_at lw_m1 156 rfl) rfl
theorem q256 : (Jvm.Cond.laysFinal "EndingTown$Seen" "EndingTown$Own" "this$0" "LEndingTown;") ∈ lw_all := lw_g (lw_at lw_m1 157 rfl) rfl
theorem q258 : (Jvm.Cond.laysFinal "EndingTown$Seen" "EndingTown$How" "this$0" "LEndingTown;") ∈ lw_all := lw_g (lw_at lw_m1 159 rfl) rfl
theorem q260 : (Jvm.Cond.superclass "EndingTown$Seen" "EndingTown$Own") ∈ lw_all := lw_g (lw_at lw_m1 161 rfl) rfl
theorem q343 : (Jvm.Cond.fieldLinkNest "EndingTown$Seen" (13 : Nat) "EndingTown" "village" "LEndingTown$Village;" "EndingTown") ∈ lw_tbl := lw_at lw_m2 4 rfl
theorem q512 : (Jvm.Cond.selects "EndingTown$Seen" ({ cls := "EndingTown$How", name := "round", desc := "(LEndingTown$Day;IIIZ)I" } : Jvm.MethodName) ({ cls := "EndingTown$Seen", name := "round", desc := "(LEndingTown$Day;IIIZ)I" } : Jvm.MethodName)) ∈ lw_all := lw_g (lw_at lw_m2 173 rfl) rfl
theorem q513 : (Jvm.Cond.instanceMethod ({ cls := "EndingTown$Seen", name := "round", desc := "(LEndingTown$Day;IIIZ)I" } : Jvm.MethodName)) ∈ lw_all := lw_g (lw_at lw_m2 174 rfl) rfl
theorem q514 : (Jvm.Cond.code ({ cls := "EndingTown$Seen", name := "round", desc := "(LEndingTown$Day;IIIZ)I" } : Jvm.MethodName) prog_12_method_2_code (7 : Nat) (Option.some Jvm.ClassFile.FieldType.int)) ∈ lw_all := lw_g (lw_at lw_m2 175 rfl) rfl
theorem q515 : (Jvm.Cond.interfaceEntry "EndingTown$Seen" (25 : Nat)) ∈ lw_tbl := lw_at lw_m2 176 rfl
theorem q516 : (Jvm.Cond.methodLink "EndingTown$Seen" (25 : Nat) ({ cls := "java/util/List", name := "get", desc := "(I)Ljava/lang/Object;" } : Jvm.MethodName)) ∈ lw_all := lw_g (lw_at lw_m2 177 rfl) rfl
theorem q517 : (Jvm.Cond.classLink "EndingTown$Seen" (31 : Nat) "EndingTown$Thing") ∈ lw_all := lw_g (lw_at lw_m2 178 rfl) rfl
theorem q518 : (Jvm.Cond.methodLink "EndingTown$Seen" (37 : Nat) ({ cls := "EndingTown$Village", name := "where", desc := "(II)I" } : Jvm.MethodName)) ∈ lw_all := lw_g (lw_at lw_m2 179 rfl) rfl
theorem q595 : (Jvm.Cond.selects "EndingTown$Seen" ({ cls := "java/lang/Object", name := "getClass", desc := "()Ljava/lang/Class;" } : Jvm.MethodName) ({ cls := "java/lang/Object", name := "getClass", desc := "()Ljava/lang/Class;" } : Jvm.MethodName)) ∈ lw_all := lw_g (lw_at lw_m3 16 rfl) rfl
theorem q900 : (Jvm.Cond.fieldLinkNest "EndingTown$Seen" (41 : Nat) "EndingTown$Thing" "place" "I" "EndingTown") ∈ lw_tbl := lw_at lw_m4 81 rfl
theorem q904 : (Jvm.Cond.fieldLinkNest "EndingTown$Seen" (33 : Nat) "EndingTown$Thing" "hour" "I" "EndingTown") ∈ lw_tbl := lw_at lw_m4 85 rfl
theorem q912 : (Jvm.Cond.fieldLinkNest "EndingTown$Seen" (44 : Nat) "EndingTown$Thing" "never" "Z" "EndingTown") ∈ lw_tbl := lw_at lw_m4 93 rfl
theorem q1256 : (Jvm.Cond.selects "EndingTown$Seen" ({ cls := "EndingTown$How", name := "eyes", desc := "(LEndingTown$Day;IIIZI)I" } : Jvm.MethodName) ({ cls := "EndingTown$Own", name := "eyes", desc := "(LEndingTown$Day;IIIZI)I" } : Jvm.MethodName)) ∈ lw_all := lw_g (lw_at lw_m5 197 rfl) rfl
theorem q1929 : (Jvm.Cond.castable "EndingTown$Seen" "java/lang/Object") ∈ lw_tbl := lw_at lw_m8 150 rfl
theorem q1946 : (Jvm.Cond.castable "EndingTown$Seen" "EndingTown$How") ∈ lw_tbl := lw_at lw_m8 167 rfl
theorem in_X5 : ∀ w ∈ wsX50, w ∈ lw_all := lw_in wsX50 [256, 258, 254] (by decide +kernel) (by decide +kernel)
/-! EndingTown$Heard -/
set_option maxRecDepth 100000
def RX6 : String := "EndingTown$Heard"
def TX6 : u_T := fun k => match k with
  | 0 => ("EndingTown$Own", "this$0", "LEndingTown;", true)
  | 1 => ("EndingTown$How", "this$0", "LEndingTown;", true)
  | _ => ("EndingTown$Heard", "this$0", "LEndingTown;", true)
def tyX6 : Nat → FieldType := fun k => match k with
  | 0 => .object "EndingTown"
  | 1 => .object "EndingTown"
  | _ => .object "EndingTown"
abbrev wsX60 : List Cond := u_ws RX6 TX6 3
-- two fields of one name: no nmX6
theorem tyX6_ok : ∀ k, k < 3 → parseFieldDescriptor (TX6 k).2.2.1 = some (tyX6 k) := by decide +kernel
abbrev cX6_init : ByteArray := prog_5_method_1_code
def yX6_init : MethodName := ⟨RX6, "<init>", "(LEndingTown;)V"⟩
def dkwX6_init_0 : List UInt8 := [42, 43, 181, 0, 1, 42, 43, 183, 0, 7, 177]
abbrev dktX6_init_0 : List UInt8 := dkwX6_init_0 ++ []
theorem dksX6_init_0 : cX6_init.data.toList.drop 0 = dktX6_init_0 := by decide +kernel
theorem dX6_init_0 : decode cX6_init 0 = .ok (.aload_n 0, 1) := dk_42 (dk_at dksX6_init_0 0 rfl rfl)
theorem dX6_init_1 : decode cX6_init 1 = .ok (.aload_n 1, 1) := dk_43 (dk_at dksX6_init_0 1 rfl rfl)
theorem dX6_init_2 : decode cX6_init 2 = .ok (.putfield 1, 3) := dk_181 0 1 (dk_at dksX6_init_0 2 rfl rfl)
theorem dX6_init_5 : decode cX6_init 5 = .ok (.aload_n 0, 1) := dk_42 (dk_at dksX6_init_0 5 rfl rfl)
theorem dX6_init_6 : decode cX6_init 6 = .ok (.aload_n 1, 1) := dk_43 (dk_at dksX6_init_0 6 rfl rfl)
theorem dX6_init_7 : decode cX6_init 7 = .ok (.invokespecial 7, 3) := dk_183 0 7 (dk_at dksX6_init_0 7 rfl rfl)
theorem dX6_init_10 : decode cX6_init 10 = .ok (.return_, 1) := dk_177 (dk_at dksX6_init_0 10 rfl rfl)
abbrev cX6_round : ByteArray := prog_5_method_2_code
def yX6_round : MethodName := ⟨RX6, "round", "(LEndingTown$Day;IIIZ)I"⟩
def dkwX6_round_4 : List UInt8 := [172]
abbrev dktX6_round_4 : List UInt8 := dkwX6_round_4 ++ []
def dkwX6_round_3 : List UInt8 := [180, 0, 13, 28, 25, 6, 180, 0, 40, 182, 0, 51, 122, 4, 126, 4, 160, 0, 7, 4, 167, 0, 4, 3]
abbrev dktX6_round_3 : List UInt8 := dkwX6_round_3 ++ dktX6_round_4
def dkwX6_round_2 : List UInt8 := [29, 163, 0, 46, 42, 180, 0, 1, 180, 0, 13, 180, 0, 44, 25, 6, 180, 0, 48, 46, 42, 180, 0, 1]
abbrev dktX6_round_2 : List UInt8 := dkwX6_round_2 ++ dktX6_round_3
def dkwX6_round_1 : List UInt8 := [154, 0, 71, 25, 6, 180, 0, 33, 153, 0, 63, 25, 6, 180, 0, 37, 154, 0, 55, 25, 6, 180, 0, 40]
abbrev dktX6_round_1 : List UInt8 := dkwX6_round_1 ++ dktX6_round_2
def dkwX6_round_0 : List UInt8 := [42, 180, 0, 1, 180, 0, 13, 180, 0, 19, 21, 4, 185, 0, 25, 2, 0, 192, 0, 31, 58, 6, 21, 5]
abbrev dktX6_round_0 : List UInt8 := dkwX6_round_0 ++ dktX6_round_1
theorem dksX6_round_0 : cX6_round.data.toList.drop 0 = dktX6_round_0 := by decide +kernel
theorem dksX6_round_1 : cX6_round.data.toList.drop 24 = dktX6_round_1 := dk_seg dksX6_round_0 24 rfl rfl
theorem dksX6_round_2 : cX6_round.data.toList.drop 48 = dktX6_round_2 := dk_seg dksX6_round_1 24 rfl rfl
theorem dksX6_round_3 : cX6_round.data.toList.drop 72 = dktX6_round_3 := dk_seg dksX6_round_2 24 rfl rfl
theorem dksX6_round_4 : cX6_round.data.toList.drop 96 = dktX6_round_4 := dk_seg dksX6_round_3 24 rfl rfl
theorem dX6_round_0 : decode cX6_round 0 = .ok (.aload_n 0, 1) := dk_42 (dk_at dksX6_round_0 0 rfl rfl)
theorem dX6_round_1 : decode cX6_round 1 = .ok (.getfield 1, 3) := dk_180 0 1 (dk_at dksX6_round_0 1 rfl rfl)
theorem dX6_round_4 : decode cX6_round 4 = .ok (.getfield 13, 3) := dk_180 0 13 (dk_at dksX6_round_0 4 rfl rfl)
theorem dX6_round_7 : decode cX6_round 7 = .ok (.getfield 19, 3) := dk_180 0 19 (dk_at dksX6_round_0 7 rfl rfl)
theorem dX6_round_10 : decode cX6_round 10 = .ok (.iload 4, 2) := dk_21 4 (dk_at dksX6_round_0 10 rfl rfl)
theorem dX6_round_12 : decode cX6_round 12 = .ok (.invokeinterface 25 2, 5) := by decide +kernel
theorem dX6_round_17 : decode cX6_round 17 = .ok (.checkcast 31, 3) := dk_192 0 31 (dk_at dksX6_round_0 17 rfl rfl)
theorem dX6_round_20 : decode cX6_round 20 = .ok (.astore 6, 2) := dk_58 6 (dk_at dksX6_round_0 20 rfl rfl)
theorem dX6_round_22 : decode cX6_round 22 = .ok (.iload 5, 2) := dk_21 5 (dk_at dksX6_round_0 22 rfl rfl)
theorem dX6_round_24 : decode cX6_round 24 = .ok (.ifCond .ne 71, 3) := dk_154 0 71 (dk_at dksX6_round_1 0 rfl rfl)
theorem dX6_round_27 : decode cX6_round 27 = .ok (.aload 6, 2) := dk_25 6 (dk_at dksX6_round_1 3 rfl rfl)
theorem dX6_round_29 : decode cX6_round 29 = .ok (.getfield 33, 3) := dk_180 0 33 (dk_at dksX6_round_1 5 rfl rfl)
theorem dX6_round_32 : decode cX6_round 32 = .ok (.ifCond .eq 63, 3) := dk_153 0 63 (dk_at dksX6_round_1 8 rfl rfl)
theorem dX6_round_35 : decode cX6_round 35 = .ok (.aload 6, 2) := dk_25 6 (dk_at dksX6_round_1 11 rfl rfl)
theorem dX6_round_37 : decode cX6_round 37 = .ok (.getfield 37, 3) := dk_180 0 37 (dk_at dksX6_round_1 13 rfl rfl)
theorem dX6_round_40 : decode cX6_round 40 = .ok (.ifCond .ne 55, 3) := dk_154 0 55 (dk_at dksX6_round_1 16 rfl rfl)
theorem dX6_round_43 : decode cX6_round 43 = .ok (.aload 6, 2) := dk_25 6 (dk_at dksX6_round_1 19 rfl rfl)
theorem dX6_round_45 : decode cX6_round 45 = .ok (.getfield 40, 3) := dk_180 0 40 (dk_at dksX6_round_1 21 rfl rfl)
theorem dX6_round_48 : decode cX6_round 48 = .ok (.iload_n 3, 1) := dk_29 (dk_at dksX6_round_2 0 rfl rfl)
theorem dX6_round_49 : decode cX6_round 49 = .ok (.if_icmp .gt 46, 3) := dk_163 0 46 (dk_at dksX6_round_2 1 rfl rfl)
theorem dX6_round_52 : decode cX6_round 52 = .ok (.aload_n 0, 1) := dk_42 (dk_at dksX6_round_2 4 rfl rfl)
theorem dX6_round_53 : decode cX6_round 53 = .ok (.getfield 1, 3) := dk_180 0 1 (dk_at dksX6_round_2 5 rfl rfl)
theorem dX6_round_56 : decode cX6_round 56 = .ok (.getfield 13, 3) := dk_180 0 13 (dk_at dksX6_round_2 8 rfl rfl)
theorem dX6_round_59 : decode cX6_round 59 = .ok (.getfield 44, 3) := dk_180 0 44 (dk_at dksX6_round_2 11 rfl rfl)
theorem dX6_round_62 : decode cX6_round 62 = .ok (.aload 6, 2) := dk_25 6 (dk_at dksX6_round_2 14 rfl rfl)
theorem dX6_round_64 : decode cX6_round 64 = .ok (.getfield 48, 3) := dk_180 0 48 (dk_at dksX6_round_2 16 rfl rfl)
theorem dX6_round_67 : decode cX6_round 67 = .ok (.iaload, 1) := dk_46 (dk_at dksX6_round_2 19 rfl rfl)
theorem dX6_round_68 : decode cX6_round 68 = .ok (.aload_n 0, 1) := dk_42 (dk_at dksX6_round_2 20 rfl rfl)
theorem dX6_round_69 : decode cX6_round 69 = .ok (.getfield 1, 3) := dk_180 0 1 (dk_at dksX6_round_2 21 rfl rfl)
theorem dX6_round_72 : decode cX6_round 72 = .ok (.getfield 13, 3) := dk_180 0 13 (dk_at dksX6_round_3 0 rfl rfl)
theorem dX6_round_75 : decode cX6_round 75 = .ok (.iload_n 2, 1) := dk_28 (dk_at dksX6_round_3 3 rfl rfl)
theorem dX6_round_76 : decode cX6_round 76 = .ok (.aload 6, 2) := dk_25 6 (dk_at dksX6_round_3 4 rfl rfl)
theorem dX6_round_78 : decode cX6_round 78 = .ok (.getfield 40, 3) := dk_180 0 40 (dk_at dksX6_round_3 6 rfl rfl)
theorem dX6_round_81 : decode cX6_round 81 = .ok (.invokevirtual 51, 3) := dk_182 0 51 (dk_at dksX6_round_3 9 rfl rfl)
theorem dX6_round_84 : decode cX6_round 84 = .ok (.ishr, 1) := dk_122 (dk_at dksX6_round_3 12 rfl rfl)
theorem dX6_round_85 : decode cX6_round 85 = .ok (.iconst 1, 1) := dk_4 (dk_at dksX6_round_3 13 rfl rfl)
theorem dX6_round_86 : decode cX6_round 86 = .ok (.iand, 1) := dk_126 (dk_at dksX6_round_3 14 rfl rfl)
theorem dX6_round_87 : decode cX6_round 87 = .ok (.iconst 1, 1) := dk_4 (dk_at dksX6_round_3 15 rfl rfl)
theorem dX6_round_88 : decode cX6_round 88 = .ok (.if_icmp .ne 7, 3) := dk_160 0 7 (dk_at dksX6_round_3 16 rfl rfl)
theorem dX6_round_91 : decode cX6_round 91 = .ok (.iconst 1, 1) := dk_4 (dk_at dksX6_round_3 19 rfl rfl)
theorem dX6_round_92 : decode cX6_round 92 = .ok (.goto 4, 3) := dk_167 0 4 (dk_at dksX6_round_3 20 rfl rfl)
theorem dX6_round_95 : decode cX6_round 95 = .ok (.iconst 0, 1) := dk_3 (dk_at dksX6_round_3 23 rfl rfl)
theorem dX6_round_96 : decode cX6_round 96 = .ok (.ireturn, 1) := dk_172 (dk_at dksX6_round_4 0 rfl rfl)
theorem q108 : (Jvm.Cond.initialized "EndingTown$Heard") ∈ lw_all := lw_g (lw_at lw_m1 9 rfl) rfl
theorem q187 : (Jvm.Cond.fieldLinkNest "EndingTown$Heard" (19 : Nat) "EndingTown$Village" "things" "Ljava/util/List;" "EndingTown") ∈ lw_tbl := lw_at lw_m1 88 rfl
theorem q197 : (Jvm.Cond.fieldLinkNest "EndingTown$Heard" (44 : Nat) "EndingTown$Village" "near" "[I" "EndingTown") ∈ lw_tbl := lw_at lw_m1 98 rfl
theorem q262 : (Jvm.Cond.instantiable "EndingTown$Heard" (3 : Nat)) ∈ lw_all := lw_g (lw_at lw_m1 163 rfl) rfl
theorem q264 : (Jvm.Cond.instanceMethod ({ cls := "EndingTown$Heard", name := "<init>", desc := "(LEndingTown;)V" } : Jvm.MethodName)) ∈ lw_all := lw_g (lw_at lw_m1 165 rfl) rfl
theorem q265 : (Jvm.Cond.code ({ cls := "EndingTown$Heard", name := "<init>", desc := "(LEndingTown;)V" } : Jvm.MethodName) prog_5_method_1_code (2 : Nat) (Option.none : Option Jvm.ClassFile.FieldType)) ∈ lw_all := lw_g (lw_at lw_m1 166 rfl) rfl
theorem q266 : (Jvm.Cond.methodLinkNest "EndingTown$Heard" (7 : Nat) ({ cls := "EndingTown$Own", name := "<init>", desc := "(LEndingTown;)V" } : Jvm.MethodName) "EndingTown") ∈ lw_tbl := lw_at lw_m1 167 rfl
theorem q267 : (Jvm.Cond.fieldLink "EndingTown$Heard" (1 : Nat) "EndingTown$Heard" "this$0" "LEndingTown;") ∈ lw_all := lw_g (lw_at lw_m1 168 rfl) rfl
theorem q268 : (Jvm.Cond.laysFinal "EndingTown$Heard" "EndingTown$Heard" "this$0" "LEndingTown;") ∈ lw_all := lw_g (lw_at lw_m1 169 rfl) rfl
theorem q269 : (Jvm.Cond.soleField "EndingTown$Heard" "this$0") ∈ lw_all := lw_g (lw_at lw_m1 170 rfl) rfl
theorem q270 : (Jvm.Cond.laysFinal "EndingTown$Heard" "EndingTown$Own" "this$0" "LEndingTown;") ∈ lw_all := lw_g (lw_at lw_m1 171 rfl) rfl
theorem q271 : (Jvm.Cond.laysFinal "EndingTown$Heard" "EndingTown$How" "this$0" "LEndingTown;") ∈ lw_all := lw_g (lw_at lw_m1 172 rfl) rfl
theorem q272 : (Jvm.Cond.superclass "EndingTown$Heard" "EndingTown$Own") ∈ lw_all := lw_g (lw_at lw_m1 173 rfl) rfl
theorem q342 : (Jvm.Cond.fieldLinkNest "EndingTown$Heard" (13 : Nat) "EndingTown" "village" "LEndingTown$Village;" "EndingTown") ∈ lw_tbl := lw_at lw_m2 3 rfl
theorem q502 : (Jvm.Cond.selects "EndingTown$Heard" ({ cls := "EndingTown$How", name := "round", desc := "(LEndingTown$Day;IIIZ)I" } : Jvm.MethodName) ({ cls := "EndingTown$Heard", name := "round", desc := "(LEndingTown$Day;IIIZ)I" } : Jvm.MethodName)) ∈ lw_all := lw_g (lw_at lw_m2 163 rfl) rfl
theorem q503 : (Jvm.Cond.instanceMethod ({ cls := "EndingTown$Heard", name := "round", desc := "(LEndingTown$Day;IIIZ)I" } : Jvm.MethodName)) ∈ lw_all := lw_g (lw_at lw_m2 164 rfl) rfl
theorem q504 : (Jvm.Cond.code ({ cls := "EndingTown$Heard", name := "round", desc := "(LEndingTown$Day;IIIZ)I" } : Jvm.MethodName) prog_5_method_2_code (7 : Nat) (Option.some Jvm.ClassFile.FieldType.int)) ∈ lw_all := lw_g (lw_at lw_m2 165 rfl) rfl
theorem q505 : (Jvm.Cond.interfaceEntry "EndingTown$Heard" (25 : Nat)) ∈ lw_tbl := lw_at lw_m2 166 rfl
theorem q506 : (Jvm.Cond.methodLink "EndingTown$Heard" (25 : Nat) ({ cls := "java/util/List", name := "get", desc := "(I)Ljava/lang/Object;" } : Jvm.MethodName)) ∈ lw_all := lw_g (lw_at lw_m2 167 rfl) rfl
theorem q507 : (Jvm.Cond.classLink "EndingTown$Heard" (31 : Nat) "EndingTown$Thing") ∈ lw_all := lw_g (lw_at lw_m2 168 rfl) rfl
theorem q508 : (Jvm.Cond.methodLink "EndingTown$Heard" (51 : Nat) ({ cls := "EndingTown$Village", name := "where", desc := "(II)I" } : Jvm.MethodName)) ∈ lw_all := lw_g (lw_at lw_m2 169 rfl) rfl
theorem q590 : (Jvm.Cond.selects "EndingTown$Heard" ({ cls := "java/lang/Object", name := "getClass", desc := "()Ljava/lang/Class;" } : Jvm.MethodName) ({ cls := "java/lang/Object", name := "getClass", desc := "()Ljava/lang/Class;" } : Jvm.MethodName)) ∈ lw_all := lw_g (lw_at lw_m3 11 rfl) rfl
theorem q901 : (Jvm.Cond.fieldLinkNest "EndingTown$Heard" (48 : Nat) "EndingTown$Thing" "place" "I" "EndingTown") ∈ lw_tbl := lw_at lw_m4 82 rfl
theorem q905 : (Jvm.Cond.fieldLinkNest "EndingTown$Heard" (40 : Nat) "EndingTown$Thing" "hour" "I" "EndingTown") ∈ lw_tbl := lw_at lw_m4 86 rfl
theorem q908 : (Jvm.Cond.fieldLinkNest "EndingTown$Heard" (33 : Nat) "EndingTown$Thing" "loud" "Z" "EndingTown") ∈ lw_tbl := lw_at lw_m4 89 rfl
theorem q911 : (Jvm.Cond.fieldLinkNest "EndingTown$Heard" (37 : Nat) "EndingTown$Thing" "never" "Z" "EndingTown") ∈ lw_tbl := lw_at lw_m4 92 rfl
theorem q1253 : (Jvm.Cond.selects "EndingTown$Heard" ({ cls := "EndingTown$How", name := "eyes", desc := "(LEndingTown$Day;IIIZI)I" } : Jvm.MethodName) ({ cls := "EndingTown$Own", name := "eyes", desc := "(LEndingTown$Day;IIIZI)I" } : Jvm.MethodName)) ∈ lw_all := lw_g (lw_at lw_m5 194 rfl) rfl
theorem q1930 : (Jvm.Cond.castable "EndingTown$Heard" "java/lang/Object") ∈ lw_tbl := lw_at lw_m8 151 rfl
theorem q1947 : (Jvm.Cond.castable "EndingTown$Heard" "EndingTown$How") ∈ lw_tbl := lw_at lw_m8 168 rfl
theorem in_X6 : ∀ w ∈ wsX60, w ∈ lw_all := lw_in wsX60 [270, 271, 268] (by decide +kernel) (by decide +kernel)
/-! EndingTown$Told -/
set_option maxRecDepth 100000
def RX7 : String := "EndingTown$Told"
def TX7 : u_T := fun k => match k with
  | 0 => ("EndingTown$How", "this$0", "LEndingTown;", true)
  | _ => ("EndingTown$Told", "this$0", "LEndingTown;", true)
def tyX7 : Nat → FieldType := fun k => match k with
  | 0 => .object "EndingTown"
  | _ => .object "EndingTown"
abbrev wsX70 : List Cond := u_ws RX7 TX7 2
-- two fields of one name: no nmX7
theorem tyX7_ok : ∀ k, k < 2 → parseFieldDescriptor (TX7 k).2.2.1 = some (tyX7 k) := by decide +kernel
abbrev cX7_init : ByteArray := prog_14_method_1_code
def yX7_init : MethodName := ⟨RX7, "<init>", "(LEndingTown;)V"⟩
def dkwX7_init_0 : List UInt8 := [42, 43, 181, 0, 1, 42, 43, 183, 0, 7, 177]
abbrev dktX7_init_0 : List UInt8 := dkwX7_init_0 ++ []
theorem dksX7_init_0 : cX7_init.data.toList.drop 0 = dktX7_init_0 := by decide +kernel
theorem dX7_init_0 : decode cX7_init 0 = .ok (.aload_n 0, 1) := dk_42 (dk_at dksX7_init_0 0 rfl rfl)
theorem dX7_init_1 : decode cX7_init 1 = .ok (.aload_n 1, 1) := dk_43 (dk_at dksX7_init_0 1 rfl rfl)
theorem dX7_init_2 : decode cX7_init 2 = .ok (.putfield 1, 3) := dk_181 0 1 (dk_at dksX7_init_0 2 rfl rfl)
theorem dX7_init_5 : decode cX7_init 5 = .ok (.aload_n 0, 1) := dk_42 (dk_at dksX7_init_0 5 rfl rfl)
theorem dX7_init_6 : decode cX7_init 6 = .ok (.aload_n 1, 1) := dk_43 (dk_at dksX7_init_0 6 rfl rfl)
theorem dX7_init_7 : decode cX7_init 7 = .ok (.invokespecial 7, 3) := dk_183 0 7 (dk_at dksX7_init_0 7 rfl rfl)
theorem dX7_init_10 : decode cX7_init 10 = .ok (.return_, 1) := dk_177 (dk_at dksX7_init_0 10 rfl rfl)
abbrev cX7_round : ByteArray := prog_14_method_3_code
def yX7_round : MethodName := ⟨RX7, "round", "(LEndingTown$Day;IIIZ)I"⟩
def dkwX7_round_3 : List UInt8 := [21, 6, 154, 0, 7, 3, 167, 0, 7, 21, 6, 4, 96, 172]
abbrev dktX7_round_3 : List UInt8 := dkwX7_round_3 ++ []
def dkwX7_round_2 : List UInt8 := [21, 7, 46, 21, 6, 162, 0, 12, 43, 180, 0, 64, 21, 7, 46, 54, 6, 132, 7, 1, 167, 255, 194]
abbrev dktX7_round_2 : List UInt8 := dkwX7_round_2 ++ dktX7_round_3
def dkwX7_round_1 : List UInt8 := [43, 21, 7, 28, 29, 21, 4, 21, 5, 182, 0, 61, 153, 0, 29, 21, 6, 153, 0, 15, 43, 180, 0, 64]
abbrev dktX7_round_1 : List UInt8 := dkwX7_round_1 ++ dktX7_round_2
def dkwX7_round_0 : List UInt8 := [3, 54, 6, 3, 54, 7, 21, 7, 42, 180, 0, 1, 180, 0, 13, 185, 0, 57, 1, 0, 162, 0, 51, 42]
abbrev dktX7_round_0 : List UInt8 := dkwX7_round_0 ++ dktX7_round_1
theorem dksX7_round_0 : cX7_round.data.toList.drop 0 = dktX7_round_0 := by decide +kernel
theorem dksX7_round_1 : cX7_round.data.toList.drop 24 = dktX7_round_1 := dk_seg dksX7_round_0 24 rfl rfl
theorem dksX7_round_2 : cX7_round.data.toList.drop 48 = dktX7_round_2 := dk_seg dksX7_round_1 24 rfl rfl
theorem dksX7_round_3 : cX7_round.data.toList.drop 71 = dktX7_round_3 := dk_seg dksX7_round_2 23 rfl rfl
theorem dX7_round_0 : decode cX7_round 0 = .ok (.iconst 0, 1) := dk_3 (dk_at dksX7_round_0 0 rfl rfl)
theorem dX7_round_1 : decode cX7_round 1 = .ok (.istore 6, 2) := dk_54 6 (dk_at dksX7_round_0 1 rfl rfl)
theorem dX7_round_3 : decode cX7_round 3 = .ok (.iconst 0, 1) := dk_3 (dk_at dksX7_round_0 3 rfl rfl)
theorem dX7_round_4 : decode cX7_round 4 = .ok (.istore 7, 2) := dk_54 7 (dk_at dksX7_round_0 4 rfl rfl)
theorem dX7_round_6 : decode cX7_round 6 = .ok (.iload 7, 2) := dk_21 7 (dk_at dksX7_round_0 6 rfl rfl)
theorem dX7_round_8 : decode cX7_round 8 = .ok (.aload_n 0, 1) := dk_42 (dk_at dksX7_round_0 8 rfl rfl)
theorem dX7_round_9 : decode cX7_round 9 = .ok (.getfield 1, 3) := dk_180 0 1 (dk_at dksX7_round_0 9 rfl rfl)
theorem dX7_round_12 : decode cX7_round 12 = .ok (.getfield 13, 3) := dk_180 0 13 (dk_at dksX7_round_0 12 rfl rfl)
theorem dX7_round_15 : decode cX7_round 15 = .ok (.invokeinterface 57 1, 5) := by decide +kernel
theorem dX7_round_20 : decode cX7_round 20 = .ok (.if_icmp .ge 51, 3) := dk_162 0 51 (dk_at dksX7_round_0 20 rfl rfl)
theorem dX7_round_23 : decode cX7_round 23 = .ok (.aload_n 0, 1) := dk_42 (dk_at dksX7_round_0 23 rfl rfl)
theorem dX7_round_24 : decode cX7_round 24 = .ok (.aload_n 1, 1) := dk_43 (dk_at dksX7_round_1 0 rfl rfl)
theorem dX7_round_25 : decode cX7_round 25 = .ok (.iload 7, 2) := dk_21 7 (dk_at dksX7_round_1 1 rfl rfl)
theorem dX7_round_27 : decode cX7_round 27 = .ok (.iload_n 2, 1) := dk_28 (dk_at dksX7_round_1 3 rfl rfl)
theorem dX7_round_28 : decode cX7_round 28 = .ok (.iload_n 3, 1) := dk_29 (dk_at dksX7_round_1 4 rfl rfl)
theorem dX7_round_29 : decode cX7_round 29 = .ok (.iload 4, 2) := dk_21 4 (dk_at dksX7_round_1 5 rfl rfl)
theorem dX7_round_31 : decode cX7_round 31 = .ok (.iload 5, 2) := dk_21 5 (dk_at dksX7_round_1 7 rfl rfl)
theorem dX7_round_33 : decode cX7_round 33 = .ok (.invokevirtual 61, 3) := dk_182 0 61 (dk_at dksX7_round_1 9 rfl rfl)
theorem dX7_round_36 : decode cX7_round 36 = .ok (.ifCond .eq 29, 3) := dk_153 0 29 (dk_at dksX7_round_1 12 rfl rfl)
theorem dX7_round_39 : decode cX7_round 39 = .ok (.iload 6, 2) := dk_21 6 (dk_at dksX7_round_1 15 rfl rfl)
theorem dX7_round_41 : decode cX7_round 41 = .ok (.ifCond .eq 15, 3) := dk_153 0 15 (dk_at dksX7_round_1 17 rfl rfl)
theorem dX7_round_44 : decode cX7_round 44 = .ok (.aload_n 1, 1) := dk_43 (dk_at dksX7_round_1 20 rfl rfl)
theorem dX7_round_45 : decode cX7_round 45 = .ok (.getfield 64, 3) := dk_180 0 64 (dk_at dksX7_round_1 21 rfl rfl)
theorem dX7_round_48 : decode cX7_round 48 = .ok (.iload 7, 2) := dk_21 7 (dk_at dksX7_round_2 0 rfl rfl)
theorem dX7_round_50 : decode cX7_round 50 = .ok (.iaload, 1) := dk_46 (dk_at dksX7_round_2 2 rfl rfl)
theorem dX7_round_51 : decode cX7_round 51 = .ok (.iload 6, 2) := dk_21 6 (dk_at dksX7_round_2 3 rfl rfl)
theorem dX7_round_53 : decode cX7_round 53 = .ok (.if_icmp .ge 12, 3) := dk_162 0 12 (dk_at dksX7_round_2 5 rfl rfl)
theorem dX7_round_56 : decode cX7_round 56 = .ok (.aload_n 1, 1) := dk_43 (dk_at dksX7_round_2 8 rfl rfl)
theorem dX7_round_57 : decode cX7_round 57 = .ok (.getfield 64, 3) := dk_180 0 64 (dk_at dksX7_round_2 9 rfl rfl)
theorem dX7_round_60 : decode cX7_round 60 = .ok (.iload 7, 2) := dk_21 7 (dk_at dksX7_round_2 12 rfl rfl)
theorem dX7_round_62 : decode cX7_round 62 = .ok (.iaload, 1) := dk_46 (dk_at dksX7_round_2 14 rfl rfl)
theorem dX7_round_63 : decode cX7_round 63 = .ok (.istore 6, 2) := dk_54 6 (dk_at dksX7_round_2 15 rfl rfl)
theorem dX7_round_65 : decode cX7_round 65 = .ok (.iinc 7 1, 3) := dk_132 7 1 (dk_at dksX7_round_2 17 rfl rfl)
theorem dX7_round_68 : decode cX7_round 68 = .ok (.goto (-62), 3) := dk_167 255 194 (dk_at dksX7_round_2 20 rfl rfl)
theorem dX7_round_71 : decode cX7_round 71 = .ok (.iload 6, 2) := dk_21 6 (dk_at dksX7_round_3 0 rfl rfl)
theorem dX7_round_73 : decode cX7_round 73 = .ok (.ifCond .ne 7, 3) := dk_154 0 7 (dk_at dksX7_round_3 2 rfl rfl)
theorem dX7_round_76 : decode cX7_round 76 = .ok (.iconst 0, 1) := dk_3 (dk_at dksX7_round_3 5 rfl rfl)
theorem dX7_round_77 : decode cX7_round 77 = .ok (.goto 7, 3) := dk_167 0 7 (dk_at dksX7_round_3 6 rfl rfl)
theorem dX7_round_80 : decode cX7_round 80 = .ok (.iload 6, 2) := dk_21 6 (dk_at dksX7_round_3 9 rfl rfl)
theorem dX7_round_82 : decode cX7_round 82 = .ok (.iconst 1, 1) := dk_4 (dk_at dksX7_round_3 11 rfl rfl)
theorem dX7_round_83 : decode cX7_round 83 = .ok (.iadd, 1) := dk_96 (dk_at dksX7_round_3 12 rfl rfl)
theorem dX7_round_84 : decode cX7_round 84 = .ok (.ireturn, 1) := dk_172 (dk_at dksX7_round_3 13 rfl rfl)
abbrev cX7_tells : ByteArray := prog_14_method_2_code
def yX7_tells : MethodName := ⟨RX7, "tells", "(LEndingTown$Day;IIIIZ)Z"⟩
def dkwX7_tells_4 : List UInt8 := [25, 7, 180, 0, 44, 182, 0, 51, 160, 0, 7, 4, 167, 0, 4, 3, 172]
abbrev dktX7_tells_4 : List UInt8 := dkwX7_tells_4 ++ []
def dkwX7_tells_3 : List UInt8 := [180, 0, 47, 29, 25, 7, 180, 0, 44, 182, 0, 51, 42, 180, 0, 1, 180, 0, 47, 25, 7, 180, 0, 33]
abbrev dktX7_tells_3 : List UInt8 := dkwX7_tells_3 ++ dktX7_tells_4
def dkwX7_tells_2 : List UInt8 := [180, 0, 40, 21, 6, 160, 0, 56, 25, 7, 180, 0, 44, 21, 4, 163, 0, 46, 42, 180, 0, 1]
abbrev dktX7_tells_2 : List UInt8 := dkwX7_tells_2 ++ dktX7_tells_3
def dkwX7_tells_1 : List UInt8 := [153, 0, 85, 25, 7, 180, 0, 33, 29, 159, 0, 76, 25, 7, 180, 0, 37, 21, 5, 160, 0, 66, 25, 7]
abbrev dktX7_tells_1 : List UInt8 := dkwX7_tells_1 ++ dktX7_tells_2
def dkwX7_tells_0 : List UInt8 := [42, 180, 0, 1, 180, 0, 13, 28, 185, 0, 19, 2, 0, 192, 0, 25, 58, 7, 43, 28, 182, 0, 27]
abbrev dktX7_tells_0 : List UInt8 := dkwX7_tells_0 ++ dktX7_tells_1
theorem dksX7_tells_0 : cX7_tells.data.toList.drop 0 = dktX7_tells_0 := by decide +kernel
theorem dksX7_tells_1 : cX7_tells.data.toList.drop 23 = dktX7_tells_1 := dk_seg dksX7_tells_0 23 rfl rfl
theorem dksX7_tells_2 : cX7_tells.data.toList.drop 47 = dktX7_tells_2 := dk_seg dksX7_tells_1 24 rfl rfl
theorem dksX7_tells_3 : cX7_tells.data.toList.drop 69 = dktX7_tells_3 := dk_seg dksX7_tells_2 22 rfl rfl
theorem dksX7_tells_4 : cX7_tells.data.toList.drop 93 = dktX7_tells_4 := dk_seg dksX7_tells_3 24 rfl rfl
theorem dX7_tells_0 : decode cX7_tells 0 = .ok (.aload_n 0, 1) := dk_42 (dk_at dksX7_tells_0 0 rfl rfl)
theorem dX7_tells_1 : decode cX7_tells 1 = .ok (.getfield 1, 3) := dk_180 0 1 (dk_at dksX7_tells_0 1 rfl rfl)
theorem dX7_tells_4 : decode cX7_tells 4 = .ok (.getfield 13, 3) := dk_180 0 13 (dk_at dksX7_tells_0 4 rfl rfl)
theorem dX7_tells_7 : decode cX7_tells 7 = .ok (.iload_n 2, 1) := dk_28 (dk_at dksX7_tells_0 7 rfl rfl)
theorem dX7_tells_8 : decode cX7_tells 8 = .ok (.invokeinterface 19 2, 5) := by decide +kernel
theorem dX7_tells_13 : decode cX7_tells 13 = .ok (.checkcast 25, 3) := dk_192 0 25 (dk_at dksX7_tells_0 13 rfl rfl)
theorem dX7_tells_16 : decode cX7_tells 16 = .ok (.astore 7, 2) := dk_58 7 (dk_at dksX7_tells_0 16 rfl rfl)
theorem dX7_tells_18 : decode cX7_tells 18 = .ok (.aload_n 1, 1) := dk_43 (dk_at dksX7_tells_0 18 rfl rfl)
theorem dX7_tells_19 : decode cX7_tells 19 = .ok (.iload_n 2, 1) := dk_28 (dk_at dksX7_tells_0 19 rfl rfl)
theorem dX7_tells_20 : decode cX7_tells 20 = .ok (.invokevirtual 27, 3) := dk_182 0 27 (dk_at dksX7_tells_0 20 rfl rfl)
theorem dX7_tells_23 : decode cX7_tells 23 = .ok (.ifCond .eq 85, 3) := dk_153 0 85 (dk_at dksX7_tells_1 0 rfl rfl)
theorem dX7_tells_26 : decode cX7_tells 26 = .ok (.aload 7, 2) := dk_25 7 (dk_at dksX7_tells_1 3 rfl rfl)
theorem dX7_tells_28 : decode cX7_tells 28 = .ok (.getfield 33, 3) := dk_180 0 33 (dk_at dksX7_tells_1 5 rfl rfl)
theorem dX7_tells_31 : decode cX7_tells 31 = .ok (.iload_n 3, 1) := dk_29 (dk_at dksX7_tells_1 8 rfl rfl)
theorem dX7_tells_32 : decode cX7_tells 32 = .ok (.if_icmp .eq 76, 3) := dk_159 0 76 (dk_at dksX7_tells_1 9 rfl rfl)
theorem dX7_tells_35 : decode cX7_tells 35 = .ok (.aload 7, 2) := dk_25 7 (dk_at dksX7_tells_1 12 rfl rfl)
theorem dX7_tells_37 : decode cX7_tells 37 = .ok (.getfield 37, 3) := dk_180 0 37 (dk_at dksX7_tells_1 14 rfl rfl)
theorem dX7_tells_40 : decode cX7_tells 40 = .ok (.iload 5, 2) := dk_21 5 (dk_at dksX7_tells_1 17 rfl rfl)
theorem dX7_tells_42 : decode cX7_tells 42 = .ok (.if_icmp .ne 66, 3) := dk_160 0 66 (dk_at dksX7_tells_1 19 rfl rfl)
theorem dX7_tells_45 : decode cX7_tells 45 = .ok (.aload 7, 2) := dk_25 7 (dk_at dksX7_tells_1 22 rfl rfl)
theorem dX7_tells_47 : decode cX7_tells 47 = .ok (.getfield 40, 3) := dk_180 0 40 (dk_at dksX7_tells_2 0 rfl rfl)
theorem dX7_tells_50 : decode cX7_tells 50 = .ok (.iload 6, 2) := dk_21 6 (dk_at dksX7_tells_2 3 rfl rfl)
theorem dX7_tells_52 : decode cX7_tells 52 = .ok (.if_icmp .ne 56, 3) := dk_160 0 56 (dk_at dksX7_tells_2 5 rfl rfl)
theorem dX7_tells_55 : decode cX7_tells 55 = .ok (.aload 7, 2) := dk_25 7 (dk_at dksX7_tells_2 8 rfl rfl)
theorem dX7_tells_57 : decode cX7_tells 57 = .ok (.getfield 44, 3) := dk_180 0 44 (dk_at dksX7_tells_2 10 rfl rfl)
theorem dX7_tells_60 : decode cX7_tells 60 = .ok (.iload 4, 2) := dk_21 4 (dk_at dksX7_tells_2 13 rfl rfl)
theorem dX7_tells_62 : decode cX7_tells 62 = .ok (.if_icmp .gt 46, 3) := dk_163 0 46 (dk_at dksX7_tells_2 15 rfl rfl)
theorem dX7_tells_65 : decode cX7_tells 65 = .ok (.aload_n 0, 1) := dk_42 (dk_at dksX7_tells_2 18 rfl rfl)
theorem dX7_tells_66 : decode cX7_tells 66 = .ok (.getfield 1, 3) := dk_180 0 1 (dk_at dksX7_tells_2 19 rfl rfl)
theorem dX7_tells_69 : decode cX7_tells 69 = .ok (.getfield 47, 3) := dk_180 0 47 (dk_at dksX7_tells_3 0 rfl rfl)
theorem dX7_tells_72 : decode cX7_tells 72 = .ok (.iload_n 3, 1) := dk_29 (dk_at dksX7_tells_3 3 rfl rfl)
theorem dX7_tells_73 : decode cX7_tells 73 = .ok (.aload 7, 2) := dk_25 7 (dk_at dksX7_tells_3 4 rfl rfl)
theorem dX7_tells_75 : decode cX7_tells 75 = .ok (.getfield 44, 3) := dk_180 0 44 (dk_at dksX7_tells_3 6 rfl rfl)
theorem dX7_tells_78 : decode cX7_tells 78 = .ok (.invokevirtual 51, 3) := dk_182 0 51 (dk_at dksX7_tells_3 9 rfl rfl)
theorem dX7_tells_81 : decode cX7_tells 81 = .ok (.aload_n 0, 1) := dk_42 (dk_at dksX7_tells_3 12 rfl rfl)
theorem dX7_tells_82 : decode cX7_tells 82 = .ok (.getfield 1, 3) := dk_180 0 1 (dk_at dksX7_tells_3 13 rfl rfl)
theorem dX7_tells_85 : decode cX7_tells 85 = .ok (.getfield 47, 3) := dk_180 0 47 (dk_at dksX7_tells_3 16 rfl rfl)
theorem dX7_tells_88 : decode cX7_tells 88 = .ok (.aload 7, 2) := dk_25 7 (dk_at dksX7_tells_3 19 rfl rfl)
theorem dX7_tells_90 : decode cX7_tells 90 = .ok (.getfield 33, 3) := dk_180 0 33 (dk_at dksX7_tells_3 21 rfl rfl)
theorem dX7_tells_93 : decode cX7_tells 93 = .ok (.aload 7, 2) := dk_25 7 (dk_at dksX7_tells_4 0 rfl rfl)
theorem dX7_tells_95 : decode cX7_tells 95 = .ok (.getfield 44, 3) := dk_180 0 44 (dk_at dksX7_tells_4 2 rfl rfl)
theorem dX7_tells_98 : decode cX7_tells 98 = .ok (.invokevirtual 51, 3) := dk_182 0 51 (dk_at dksX7_tells_4 5 rfl rfl)
theorem dX7_tells_101 : decode cX7_tells 101 = .ok (.if_icmp .ne 7, 3) := dk_160 0 7 (dk_at dksX7_tells_4 8 rfl rfl)
theorem dX7_tells_104 : decode cX7_tells 104 = .ok (.iconst 1, 1) := dk_4 (dk_at dksX7_tells_4 11 rfl rfl)
theorem dX7_tells_105 : decode cX7_tells 105 = .ok (.goto 4, 3) := dk_167 0 4 (dk_at dksX7_tells_4 12 rfl rfl)
theorem dX7_tells_108 : decode cX7_tells 108 = .ok (.iconst 0, 1) := dk_3 (dk_at dksX7_tells_4 15 rfl rfl)
theorem dX7_tells_109 : decode cX7_tells 109 = .ok (.ireturn, 1) := dk_172 (dk_at dksX7_tells_4 16 rfl rfl)
abbrev cX7_eyes : ByteArray := prog_14_method_4_code
def yX7_eyes : MethodName := ⟨RX7, "eyes", "(LEndingTown$Day;IIIZI)I"⟩
def dkwX7_eyes_2 : List UInt8 := [128, 54, 7, 132, 8, 1, 167, 255, 208, 21, 7, 172]
abbrev dktX7_eyes_2 : List UInt8 := dkwX7_eyes_2 ++ []
def dkwX7_eyes_1 : List UInt8 := [43, 21, 8, 28, 29, 21, 4, 21, 5, 182, 0, 61, 153, 0, 15, 21, 7, 43, 180, 0, 68, 21, 8, 46]
abbrev dktX7_eyes_1 : List UInt8 := dkwX7_eyes_1 ++ dktX7_eyes_2
def dkwX7_eyes_0 : List UInt8 := [3, 54, 7, 3, 54, 8, 21, 8, 42, 180, 0, 1, 180, 0, 13, 185, 0, 57, 1, 0, 162, 0, 37, 42]
abbrev dktX7_eyes_0 : List UInt8 := dkwX7_eyes_0 ++ dktX7_eyes_1
theorem dksX7_eyes_0 : cX7_eyes.data.toList.drop 0 = dktX7_eyes_0 := by decide +kernel
theorem dksX7_eyes_1 : cX7_eyes.data.toList.drop 24 = dktX7_eyes_1 := dk_seg dksX7_eyes_0 24 rfl rfl
theorem dksX7_eyes_2 : cX7_eyes.data.toList.drop 48 = dktX7_eyes_2 := dk_seg dksX7_eyes_1 24 rfl rfl
theorem dX7_eyes_0 : decode cX7_eyes 0 = .ok (.iconst 0, 1) := dk_3 (dk_at dksX7_eyes_0 0 rfl rfl)
theorem dX7_eyes_1 : decode cX7_eyes 1 = .ok (.istore 7, 2) := dk_54 7 (dk_at dksX7_eyes_0 1 rfl rfl)
theorem dX7_eyes_3 : decode cX7_eyes 3 = .ok (.iconst 0, 1) := dk_3 (dk_at dksX7_eyes_0 3 rfl rfl)
theorem dX7_eyes_4 : decode cX7_eyes 4 = .ok (.istore 8, 2) := dk_54 8 (dk_at dksX7_eyes_0 4 rfl rfl)
theorem dX7_eyes_6 : decode cX7_eyes 6 = .ok (.iload 8, 2) := dk_21 8 (dk_at dksX7_eyes_0 6 rfl rfl)
theorem dX7_eyes_8 : decode cX7_eyes 8 = .ok (.aload_n 0, 1) := dk_42 (dk_at dksX7_eyes_0 8 rfl rfl)
theorem dX7_eyes_9 : decode cX7_eyes 9 = .ok (.getfield 1, 3) := dk_180 0 1 (dk_at dksX7_eyes_0 9 rfl rfl)
theorem dX7_eyes_12 : decode cX7_eyes 12 = .ok (.getfield 13, 3) := dk_180 0 13 (dk_at dksX7_eyes_0 12 rfl rfl)
theorem dX7_eyes_15 : decode cX7_eyes 15 = .ok (.invokeinterface 57 1, 5) := by decide +kernel
theorem dX7_eyes_20 : decode cX7_eyes 20 = .ok (.if_icmp .ge 37, 3) := dk_162 0 37 (dk_at dksX7_eyes_0 20 rfl rfl)
theorem dX7_eyes_23 : decode cX7_eyes 23 = .ok (.aload_n 0, 1) := dk_42 (dk_at dksX7_eyes_0 23 rfl rfl)
theorem dX7_eyes_24 : decode cX7_eyes 24 = .ok (.aload_n 1, 1) := dk_43 (dk_at dksX7_eyes_1 0 rfl rfl)
theorem dX7_eyes_25 : decode cX7_eyes 25 = .ok (.iload 8, 2) := dk_21 8 (dk_at dksX7_eyes_1 1 rfl rfl)
theorem dX7_eyes_27 : decode cX7_eyes 27 = .ok (.iload_n 2, 1) := dk_28 (dk_at dksX7_eyes_1 3 rfl rfl)
theorem dX7_eyes_28 : decode cX7_eyes 28 = .ok (.iload_n 3, 1) := dk_29 (dk_at dksX7_eyes_1 4 rfl rfl)
theorem dX7_eyes_29 : decode cX7_eyes 29 = .ok (.iload 4, 2) := dk_21 4 (dk_at dksX7_eyes_1 5 rfl rfl)
theorem dX7_eyes_31 : decode cX7_eyes 31 = .ok (.iload 5, 2) := dk_21 5 (dk_at dksX7_eyes_1 7 rfl rfl)
theorem dX7_eyes_33 : decode cX7_eyes 33 = .ok (.invokevirtual 61, 3) := dk_182 0 61 (dk_at dksX7_eyes_1 9 rfl rfl)
theorem dX7_eyes_36 : decode cX7_eyes 36 = .ok (.ifCond .eq 15, 3) := dk_153 0 15 (dk_at dksX7_eyes_1 12 rfl rfl)
theorem dX7_eyes_39 : decode cX7_eyes 39 = .ok (.iload 7, 2) := dk_21 7 (dk_at dksX7_eyes_1 15 rfl rfl)
theorem dX7_eyes_41 : decode cX7_eyes 41 = .ok (.aload_n 1, 1) := dk_43 (dk_at dksX7_eyes_1 17 rfl rfl)
theorem dX7_eyes_42 : decode cX7_eyes 42 = .ok (.getfield 68, 3) := dk_180 0 68 (dk_at dksX7_eyes_1 18 rfl rfl)
theorem dX7_eyes_45 : decode cX7_eyes 45 = .ok (.iload 8, 2) := dk_21 8 (dk_at dksX7_eyes_1 21 rfl rfl)
theorem dX7_eyes_47 : decode cX7_eyes 47 = .ok (.iaload, 1) := dk_46 (dk_at dksX7_eyes_1 23 rfl rfl)
theorem dX7_eyes_48 : decode cX7_eyes 48 = .ok (.ior, 1) := dk_128 (dk_at dksX7_eyes_2 0 rfl rfl)
theorem dX7_eyes_49 : decode cX7_eyes 49 = .ok (.istore 7, 2) := dk_54 7 (dk_at dksX7_eyes_2 1 rfl rfl)
theorem dX7_eyes_51 : decode cX7_eyes 51 = .ok (.iinc 8 1, 3) := dk_132 8 1 (dk_at dksX7_eyes_2 3 rfl rfl)
theorem dX7_eyes_54 : decode cX7_eyes 54 = .ok (.goto (-48), 3) := dk_167 255 208 (dk_at dksX7_eyes_2 6 rfl rfl)
theorem dX7_eyes_57 : decode cX7_eyes 57 = .ok (.iload 7, 2) := dk_21 7 (dk_at dksX7_eyes_2 9 rfl rfl)
theorem dX7_eyes_59 : decode cX7_eyes 59 = .ok (.ireturn, 1) := dk_172 (dk_at dksX7_eyes_2 11 rfl rfl)
theorem q109 : (Jvm.Cond.initialized "EndingTown$Told") ∈ lw_all := lw_g (lw_at lw_m1 10 rfl) rfl
theorem q274 : (Jvm.Cond.instantiable "EndingTown$Told" (2 : Nat)) ∈ lw_all := lw_g (lw_at lw_m1 175 rfl) rfl
theorem q276 : (Jvm.Cond.instanceMethod ({ cls := "EndingTown$Told", name := "<init>", desc := "(LEndingTown;)V" } : Jvm.MethodName)) ∈ lw_all := lw_g (lw_at lw_m1 177 rfl) rfl
theorem q277 : (Jvm.Cond.code ({ cls := "EndingTown$Told", name := "<init>", desc := "(LEndingTown;)V" } : Jvm.MethodName) prog_14_method_1_code (2 : Nat) (Option.none : Option Jvm.ClassFile.FieldType)) ∈ lw_all := lw_g (lw_at lw_m1 178 rfl) rfl
theorem q278 : (Jvm.Cond.methodLinkNest "EndingTown$Told" (7 : Nat) ({ cls := "EndingTown$How", name := "<init>", desc := "(LEndingTown;)V" } : Jvm.MethodName) "EndingTown") ∈ lw_tbl := lw_at lw_m1 179 rfl
theorem q279 : (Jvm.Cond.fieldLink "EndingTown$Told" (1 : Nat) "EndingTown$Told" "this$0" "LEndingTown;") ∈ lw_all := lw_g (lw_at lw_m1 180 rfl) rfl
theorem q280 : (Jvm.Cond.laysFinal "EndingTown$Told" "EndingTown$Told" "this$0" "LEndingTown;") ∈ lw_all := lw_g (lw_at lw_m1 181 rfl) rfl
theorem q281 : (Jvm.Cond.soleField "EndingTown$Told" "this$0") ∈ lw_all := lw_g (lw_at lw_m1 182 rfl) rfl
theorem q282 : (Jvm.Cond.laysFinal "EndingTown$Told" "EndingTown$How" "this$0" "LEndingTown;") ∈ lw_all := lw_g (lw_at lw_m1 183 rfl) rfl
theorem q283 : (Jvm.Cond.superclass "EndingTown$Told" "EndingTown$How") ∈ lw_all := lw_g (lw_at lw_m1 184 rfl) rfl
theorem q316 : (Jvm.Cond.fieldLinkNest "EndingTown$Told" (64 : Nat) "EndingTown$Day" "round" "[I" "EndingTown") ∈ lw_tbl := lw_at lw_m1 217 rfl
theorem q321 : (Jvm.Cond.fieldLinkNest "EndingTown$Told" (68 : Nat) "EndingTown$Day" "eyes" "[I" "EndingTown") ∈ lw_tbl := lw_at lw_m1 222 rfl
theorem q345 : (Jvm.Cond.fieldLinkNest "EndingTown$Told" (47 : Nat) "EndingTown" "village" "LEndingTown$Village;" "EndingTown") ∈ lw_tbl := lw_at lw_m2 6 rfl
theorem q347 : (Jvm.Cond.fieldLinkNest "EndingTown$Told" (13 : Nat) "EndingTown" "said" "Ljava/util/List;" "EndingTown") ∈ lw_tbl := lw_at lw_m2 8 rfl
theorem q519 : (Jvm.Cond.selects "EndingTown$Told" ({ cls := "EndingTown$How", name := "round", desc := "(LEndingTown$Day;IIIZ)I" } : Jvm.MethodName) ({ cls := "EndingTown$Told", name := "round", desc := "(LEndingTown$Day;IIIZ)I" } : Jvm.MethodName)) ∈ lw_all := lw_g (lw_at lw_m2 180 rfl) rfl
theorem q520 : (Jvm.Cond.instanceMethod ({ cls := "EndingTown$Told", name := "round", desc := "(LEndingTown$Day;IIIZ)I" } : Jvm.MethodName)) ∈ lw_all := lw_g (lw_at lw_m2 181 rfl) rfl
theorem q521 : (Jvm.Cond.code ({ cls := "EndingTown$Told", name := "round", desc := "(LEndingTown$Day;IIIZ)I" } : Jvm.MethodName) prog_14_method_3_code (8 : Nat) (Option.some Jvm.ClassFile.FieldType.int)) ∈ lw_all := lw_g (lw_at lw_m2 182 rfl) rfl
theorem q522 : (Jvm.Cond.interfaceEntry "EndingTown$Told" (57 : Nat)) ∈ lw_tbl := lw_at lw_m2 183 rfl
theorem q523 : (Jvm.Cond.methodLink "EndingTown$Told" (57 : Nat) ({ cls := "java/util/List", name := "size", desc := "()I" } : Jvm.MethodName)) ∈ lw_all := lw_g (lw_at lw_m2 184 rfl) rfl
theorem q524 : (Jvm.Cond.methodLink "EndingTown$Told" (61 : Nat) ({ cls := "EndingTown$Told", name := "tells", desc := "(LEndingTown$Day;IIIIZ)Z" } : Jvm.MethodName)) ∈ lw_all := lw_g (lw_at lw_m2 185 rfl) rfl
theorem q525 : (Jvm.Cond.privateMethod ({ cls := "EndingTown$Told", name := "tells", desc := "(LEndingTown$Day;IIIIZ)Z" } : Jvm.MethodName)) ∈ lw_tbl := lw_at lw_m2 186 rfl
theorem q526 : (Jvm.Cond.instanceMethod ({ cls := "EndingTown$Told", name := "tells", desc := "(LEndingTown$Day;IIIIZ)Z" } : Jvm.MethodName)) ∈ lw_all := lw_g (lw_at lw_m2 187 rfl) rfl
theorem q527 : (Jvm.Cond.code ({ cls := "EndingTown$Told", name := "tells", desc := "(LEndingTown$Day;IIIIZ)Z" } : Jvm.MethodName) prog_14_method_2_code (8 : Nat) (Option.some Jvm.ClassFile.FieldType.boolean)) ∈ lw_all := lw_g (lw_at lw_m2 188 rfl) rfl
theorem q528 : (Jvm.Cond.interfaceEntry "EndingTown$Told" (19 : Nat)) ∈ lw_tbl := lw_at lw_m2 189 rfl
theorem q529 : (Jvm.Cond.methodLink "EndingTown$Told" (19 : Nat) ({ cls := "java/util/List", name := "get", desc := "(I)Ljava/lang/Object;" } : Jvm.MethodName)) ∈ lw_all := lw_g (lw_at lw_m2 190 rfl) rfl
theorem q530 : (Jvm.Cond.classLink "EndingTown$Told" (25 : Nat) "EndingTown$Saying") ∈ lw_all := lw_g (lw_at lw_m2 191 rfl) rfl
theorem q531 : (Jvm.Cond.methodLink "EndingTown$Told" (27 : Nat) ({ cls := "EndingTown$Day", name := "tells", desc := "(I)Z" } : Jvm.MethodName)) ∈ lw_all := lw_g (lw_at lw_m2 192 rfl) rfl
theorem q535 : (Jvm.Cond.methodLink "EndingTown$Told" (51 : Nat) ({ cls := "EndingTown$Village", name := "where", desc := "(II)I" } : Jvm.MethodName)) ∈ lw_all := lw_g (lw_at lw_m2 196 rfl) rfl
theorem q597 : (Jvm.Cond.selects "EndingTown$Told" ({ cls := "java/lang/Object", name := "getClass", desc := "()Ljava/lang/Class;" } : Jvm.MethodName) ({ cls := "java/lang/Object", name := "getClass", desc := "()Ljava/lang/Class;" } : Jvm.MethodName)) ∈ lw_all := lw_g (lw_at lw_m3 18 rfl) rfl
theorem q1179 : (Jvm.Cond.fieldLinkNest "EndingTown$Told" (33 : Nat) "EndingTown$Saying" "person" "I" "EndingTown") ∈ lw_tbl := lw_at lw_m5 120 rfl
theorem q1183 : (Jvm.Cond.fieldLinkNest "EndingTown$Told" (44 : Nat) "EndingTown$Saying" "hour" "I" "EndingTown") ∈ lw_tbl := lw_at lw_m5 124 rfl
theorem q1187 : (Jvm.Cond.fieldLinkNest "EndingTown$Told" (37 : Nat) "EndingTown$Saying" "thing" "I" "EndingTown") ∈ lw_tbl := lw_at lw_m5 128 rfl
theorem q1194 : (Jvm.Cond.fieldLinkNest "EndingTown$Told" (40 : Nat) "EndingTown$Saying" "not" "Z" "EndingTown") ∈ lw_tbl := lw_at lw_m5 135 rfl
theorem q1257 : (Jvm.Cond.selects "EndingTown$Told" ({ cls := "EndingTown$How", name := "eyes", desc := "(LEndingTown$Day;IIIZI)I" } : Jvm.MethodName) ({ cls := "EndingTown$Told", name := "eyes", desc := "(LEndingTown$Day;IIIZI)I" } : Jvm.MethodName)) ∈ lw_all := lw_g (lw_at lw_m5 198 rfl) rfl
theorem q1258 : (Jvm.Cond.instanceMethod ({ cls := "EndingTown$Told", name := "eyes", desc := "(LEndingTown$Day;IIIZI)I" } : Jvm.MethodName)) ∈ lw_all := lw_g (lw_at lw_m5 199 rfl) rfl
theorem q1259 : (Jvm.Cond.code ({ cls := "EndingTown$Told", name := "eyes", desc := "(LEndingTown$Day;IIIZI)I" } : Jvm.MethodName) prog_14_method_4_code (9 : Nat) (Option.some Jvm.ClassFile.FieldType.int)) ∈ lw_all := lw_g (lw_at lw_m5 200 rfl) rfl
theorem q1931 : (Jvm.Cond.castable "EndingTown$Told" "java/lang/Object") ∈ lw_tbl := lw_at lw_m8 152 rfl
theorem q1948 : (Jvm.Cond.castable "EndingTown$Told" "EndingTown$How") ∈ lw_tbl := lw_at lw_m8 169 rfl
theorem in_X7 : ∀ w ∈ wsX70, w ∈ lw_all := lw_in wsX70 [282, 280] (by decide +kernel) (by decide +kernel)
/-! EndingTown$Worked -/
set_option maxRecDepth 100000
def RX8 : String := "EndingTown$Worked"
def TX8 : u_T := fun k => match k with
  | 0 => ("EndingTown$How", "this$0", "LEndingTown;", true)
  | 1 => ("EndingTown$Worked", "rounds", "[I", true)
  | _ => ("EndingTown$Worked", "this$0", "LEndingTown;", true)
def tyX8 : Nat → FieldType := fun k => match k with
  | 0 => .object "EndingTown"
  | 1 => .array .int
  | _ => .object "EndingTown"
abbrev wsX80 : List Cond := u_ws RX8 TX8 3
-- two fields of one name: no nmX8
theorem tyX8_ok : ∀ k, k < 3 → parseFieldDescriptor (TX8 k).2.2.1 = some (tyX8 k) := by decide +kernel
abbrev cX8_init : ByteArray := prog_16_method_1_code
def yX8_init : MethodName := ⟨RX8, "<init>", "(LEndingTown;)V"⟩
def dkwX8_init_0 : List UInt8 := [42, 43, 181, 0, 3, 42, 43, 183, 0, 9, 42, 16, 8, 188, 10, 181, 0, 15, 177]
abbrev dktX8_init_0 : List UInt8 := dkwX8_init_0 ++ []
theorem dksX8_init_0 : cX8_init.data.toList.drop 0 = dktX8_init_0 := by decide +kernel
theorem dX8_init_0 : decode cX8_init 0 = .ok (.aload_n 0, 1) := dk_42 (dk_at dksX8_init_0 0 rfl rfl)
theorem dX8_init_1 : decode cX8_init 1 = .ok (.aload_n 1, 1) := dk_43 (dk_at dksX8_init_0 1 rfl rfl)
theorem dX8_init_2 : decode cX8_init 2 = .ok (.putfield 3, 3) := dk_181 0 3 (dk_at dksX8_init_0 2 rfl rfl)
theorem dX8_init_5 : decode cX8_init 5 = .ok (.aload_n 0, 1) := dk_42 (dk_at dksX8_init_0 5 rfl rfl)
theorem dX8_init_6 : decode cX8_init 6 = .ok (.aload_n 1, 1) := dk_43 (dk_at dksX8_init_0 6 rfl rfl)
theorem dX8_init_7 : decode cX8_init 7 = .ok (.invokespecial 9, 3) := dk_183 0 9 (dk_at dksX8_init_0 7 rfl rfl)
theorem dX8_init_10 : decode cX8_init 10 = .ok (.aload_n 0, 1) := dk_42 (dk_at dksX8_init_0 10 rfl rfl)
theorem dX8_init_11 : decode cX8_init 11 = .ok (.bipush 8, 2) := dk_16 8 (dk_at dksX8_init_0 11 rfl rfl)
theorem dX8_init_13 : decode cX8_init 13 = .ok (.newarray .int, 2) := dk_188_10 (dk_at dksX8_init_0 13 rfl rfl)
theorem dX8_init_15 : decode cX8_init 15 = .ok (.putfield 15, 3) := dk_181 0 15 (dk_at dksX8_init_0 15 rfl rfl)
theorem dX8_init_18 : decode cX8_init 18 = .ok (.return_, 1) := dk_177 (dk_at dksX8_init_0 18 rfl rfl)
abbrev cX8_round : ByteArray := prog_16_method_4_code
def yX8_round : MethodName := ⟨RX8, "round", "(LEndingTown$Day;IIIZ)I"⟩
def dkwX8_round_4 : List UInt8 := [153, 0, 10, 21, 9, 21, 6, 162, 0, 7, 21, 9, 54, 6, 132, 7, 1, 167, 255, 168, 21, 6, 172]
abbrev dktX8_round_4 : List UInt8 := dkwX8_round_4 ++ []
def dkwX8_round_3 : List UInt8 := [160, 0, 12, 42, 25, 8, 182, 0, 52, 167, 0, 4, 3, 54, 9, 21, 9, 158, 0, 19, 21, 6]
abbrev dktX8_round_3 : List UInt8 := dkwX8_round_3 ++ dktX8_round_4
def dkwX8_round_2 : List UInt8 := [180, 0, 43, 21, 7, 185, 0, 46, 2, 0, 192, 0, 50, 58, 8, 25, 8, 180, 0, 56, 21, 4]
abbrev dktX8_round_2 : List UInt8 := dkwX8_round_2 ++ dktX8_round_3
def dkwX8_round_1 : List UInt8 := [180, 0, 3, 180, 0, 19, 180, 0, 43, 185, 0, 29, 1, 0, 162, 0, 74, 42, 180, 0, 3, 180, 0, 19]
abbrev dktX8_round_1 : List UInt8 := dkwX8_round_1 ++ dktX8_round_2
def dkwX8_round_0 : List UInt8 := [21, 5, 153, 0, 5, 3, 172, 42, 43, 28, 29, 182, 0, 72, 3, 54, 6, 3, 54, 7, 21, 7, 42]
abbrev dktX8_round_0 : List UInt8 := dkwX8_round_0 ++ dktX8_round_1
theorem dksX8_round_0 : cX8_round.data.toList.drop 0 = dktX8_round_0 := by decide +kernel
theorem dksX8_round_1 : cX8_round.data.toList.drop 23 = dktX8_round_1 := dk_seg dksX8_round_0 23 rfl rfl
theorem dksX8_round_2 : cX8_round.data.toList.drop 47 = dktX8_round_2 := dk_seg dksX8_round_1 24 rfl rfl
theorem dksX8_round_3 : cX8_round.data.toList.drop 69 = dktX8_round_3 := dk_seg dksX8_round_2 22 rfl rfl
theorem dksX8_round_4 : cX8_round.data.toList.drop 91 = dktX8_round_4 := dk_seg dksX8_round_3 22 rfl rfl
theorem dX8_round_0 : decode cX8_round 0 = .ok (.iload 5, 2) := dk_21 5 (dk_at dksX8_round_0 0 rfl rfl)
theorem dX8_round_2 : decode cX8_round 2 = .ok (.ifCond .eq 5, 3) := dk_153 0 5 (dk_at dksX8_round_0 2 rfl rfl)
theorem dX8_round_5 : decode cX8_round 5 = .ok (.iconst 0, 1) := dk_3 (dk_at dksX8_round_0 5 rfl rfl)
theorem dX8_round_6 : decode cX8_round 6 = .ok (.ireturn, 1) := dk_172 (dk_at dksX8_round_0 6 rfl rfl)
theorem dX8_round_7 : decode cX8_round 7 = .ok (.aload_n 0, 1) := dk_42 (dk_at dksX8_round_0 7 rfl rfl)
theorem dX8_round_8 : decode cX8_round 8 = .ok (.aload_n 1, 1) := dk_43 (dk_at dksX8_round_0 8 rfl rfl)
theorem dX8_round_9 : decode cX8_round 9 = .ok (.iload_n 2, 1) := dk_28 (dk_at dksX8_round_0 9 rfl rfl)
theorem dX8_round_10 : decode cX8_round 10 = .ok (.iload_n 3, 1) := dk_29 (dk_at dksX8_round_0 10 rfl rfl)
theorem dX8_round_11 : decode cX8_round 11 = .ok (.invokevirtual 72, 3) := dk_182 0 72 (dk_at dksX8_round_0 11 rfl rfl)
theorem dX8_round_14 : decode cX8_round 14 = .ok (.iconst 0, 1) := dk_3 (dk_at dksX8_round_0 14 rfl rfl)
theorem dX8_round_15 : decode cX8_round 15 = .ok (.istore 6, 2) := dk_54 6 (dk_at dksX8_round_0 15 rfl rfl)
theorem dX8_round_17 : decode cX8_round 17 = .ok (.iconst 0, 1) := dk_3 (dk_at dksX8_round_0 17 rfl rfl)
theorem dX8_round_18 : decode cX8_round 18 = .ok (.istore 7, 2) := dk_54 7 (dk_at dksX8_round_0 18 rfl rfl)
theorem dX8_round_20 : decode cX8_round 20 = .ok (.iload 7, 2) := dk_21 7 (dk_at dksX8_round_0 20 rfl rfl)
theorem dX8_round_22 : decode cX8_round 22 = .ok (.aload_n 0, 1) := dk_42 (dk_at dksX8_round_0 22 rfl rfl)
theorem dX8_round_23 : decode cX8_round 23 = .ok (.getfield 3, 3) := dk_180 0 3 (dk_at dksX8_round_1 0 rfl rfl)
theorem dX8_round_26 : decode cX8_round 26 = .ok (.getfield 19, 3) := dk_180 0 19 (dk_at dksX8_round_1 3 rfl rfl)
theorem dX8_round_29 : decode cX8_round 29 = .ok (.getfield 43, 3) := dk_180 0 43 (dk_at dksX8_round_1 6 rfl rfl)
theorem dX8_round_32 : decode cX8_round 32 = .ok (.invokeinterface 29 1, 5) := by decide +kernel
theorem dX8_round_37 : decode cX8_round 37 = .ok (.if_icmp .ge 74, 3) := dk_162 0 74 (dk_at dksX8_round_1 14 rfl rfl)
theorem dX8_round_40 : decode cX8_round 40 = .ok (.aload_n 0, 1) := dk_42 (dk_at dksX8_round_1 17 rfl rfl)
theorem dX8_round_41 : decode cX8_round 41 = .ok (.getfield 3, 3) := dk_180 0 3 (dk_at dksX8_round_1 18 rfl rfl)
theorem dX8_round_44 : decode cX8_round 44 = .ok (.getfield 19, 3) := dk_180 0 19 (dk_at dksX8_round_1 21 rfl rfl)
theorem dX8_round_47 : decode cX8_round 47 = .ok (.getfield 43, 3) := dk_180 0 43 (dk_at dksX8_round_2 0 rfl rfl)
theorem dX8_round_50 : decode cX8_round 50 = .ok (.iload 7, 2) := dk_21 7 (dk_at dksX8_round_2 3 rfl rfl)
theorem dX8_round_52 : decode cX8_round 52 = .ok (.invokeinterface 46 2, 5) := by decide +kernel
theorem dX8_round_57 : decode cX8_round 57 = .ok (.checkcast 50, 3) := dk_192 0 50 (dk_at dksX8_round_2 10 rfl rfl)
theorem dX8_round_60 : decode cX8_round 60 = .ok (.astore 8, 2) := dk_58 8 (dk_at dksX8_round_2 13 rfl rfl)
theorem dX8_round_62 : decode cX8_round 62 = .ok (.aload 8, 2) := dk_25 8 (dk_at dksX8_round_2 15 rfl rfl)
theorem dX8_round_64 : decode cX8_round 64 = .ok (.getfield 56, 3) := dk_180 0 56 (dk_at dksX8_round_2 17 rfl rfl)
theorem dX8_round_67 : decode cX8_round 67 = .ok (.iload 4, 2) := dk_21 4 (dk_at dksX8_round_2 20 rfl rfl)
theorem dX8_round_69 : decode cX8_round 69 = .ok (.if_icmp .ne 12, 3) := dk_160 0 12 (dk_at dksX8_round_3 0 rfl rfl)
theorem dX8_round_72 : decode cX8_round 72 = .ok (.aload_n 0, 1) := dk_42 (dk_at dksX8_round_3 3 rfl rfl)
theorem dX8_round_73 : decode cX8_round 73 = .ok (.aload 8, 2) := dk_25 8 (dk_at dksX8_round_3 4 rfl rfl)
theorem dX8_round_75 : decode cX8_round 75 = .ok (.invokevirtual 52, 3) := dk_182 0 52 (dk_at dksX8_round_3 6 rfl rfl)
theorem dX8_round_78 : decode cX8_round 78 = .ok (.goto 4, 3) := dk_167 0 4 (dk_at dksX8_round_3 9 rfl rfl)
theorem dX8_round_81 : decode cX8_round 81 = .ok (.iconst 0, 1) := dk_3 (dk_at dksX8_round_3 12 rfl rfl)
theorem dX8_round_82 : decode cX8_round 82 = .ok (.istore 9, 2) := dk_54 9 (dk_at dksX8_round_3 13 rfl rfl)
theorem dX8_round_84 : decode cX8_round 84 = .ok (.iload 9, 2) := dk_21 9 (dk_at dksX8_round_3 15 rfl rfl)
theorem dX8_round_86 : decode cX8_round 86 = .ok (.ifCond .le 19, 3) := dk_158 0 19 (dk_at dksX8_round_3 17 rfl rfl)
theorem dX8_round_89 : decode cX8_round 89 = .ok (.iload 6, 2) := dk_21 6 (dk_at dksX8_round_3 20 rfl rfl)
theorem dX8_round_91 : decode cX8_round 91 = .ok (.ifCond .eq 10, 3) := dk_153 0 10 (dk_at dksX8_round_4 0 rfl rfl)
theorem dX8_round_94 : decode cX8_round 94 = .ok (.iload 9, 2) := dk_21 9 (dk_at dksX8_round_4 3 rfl rfl)
theorem dX8_round_96 : decode cX8_round 96 = .ok (.iload 6, 2) := dk_21 6 (dk_at dksX8_round_4 5 rfl rfl)
theorem dX8_round_98 : decode cX8_round 98 = .ok (.if_icmp .ge 7, 3) := dk_162 0 7 (dk_at dksX8_round_4 7 rfl rfl)
theorem dX8_round_101 : decode cX8_round 101 = .ok (.iload 9, 2) := dk_21 9 (dk_at dksX8_round_4 10 rfl rfl)
theorem dX8_round_103 : decode cX8_round 103 = .ok (.istore 6, 2) := dk_54 6 (dk_at dksX8_round_4 12 rfl rfl)
theorem dX8_round_105 : decode cX8_round 105 = .ok (.iinc 7 1, 3) := dk_132 7 1 (dk_at dksX8_round_4 14 rfl rfl)
theorem dX8_round_108 : decode cX8_round 108 = .ok (.goto (-88), 3) := dk_167 255 168 (dk_at dksX8_round_4 17 rfl rfl)
theorem dX8_round_111 : decode cX8_round 111 = .ok (.iload 6, 2) := dk_21 6 (dk_at dksX8_round_4 20 rfl rfl)
theorem dX8_round_113 : decode cX8_round 113 = .ok (.ireturn, 1) := dk_172 (dk_at dksX8_round_4 22 rfl rfl)
abbrev cX8_tell : ByteArray := prog_16_method_2_code
def yX8_tell : MethodName := ⟨RX8, "tell", "(LEndingTown$Day;II)V"⟩
def dkwX8_tell_10 : List UInt8 := [167, 255, 142, 177]
abbrev dktX8_tell_10 : List UInt8 := dkwX8_tell_10 ++ []
def dkwX8_tell_9 : List UInt8 := [162, 0, 15, 42, 180, 0, 15, 25, 7, 180, 0, 56, 21, 8, 79, 132, 6, 1, 167, 255, 158, 132, 5, 1]
abbrev dktX8_tell_9 : List UInt8 := dkwX8_tell_9 ++ dktX8_tell_10
def dkwX8_tell_8 : List UInt8 := [180, 0, 15, 25, 7, 180, 0, 56, 46, 153, 0, 18, 21, 8, 42, 180, 0, 15, 25, 7, 180, 0, 56, 46]
abbrev dktX8_tell_8 : List UInt8 := dkwX8_tell_8 ++ dktX8_tell_9
def dkwX8_tell_7 : List UInt8 := [185, 0, 46, 2, 0, 192, 0, 50, 58, 7, 42, 25, 7, 182, 0, 52, 54, 8, 21, 8, 158, 0, 43, 42]
abbrev dktX8_tell_7 : List UInt8 := dkwX8_tell_7 ++ dktX8_tell_8
def dkwX8_tell_6 : List UInt8 := [185, 0, 29, 1, 0, 162, 0, 84, 42, 180, 0, 3, 180, 0, 19, 180, 0, 43, 21, 6]
abbrev dktX8_tell_6 : List UInt8 := dkwX8_tell_6 ++ dktX8_tell_7
def dkwX8_tell_5 : List UInt8 := [21, 5, 21, 4, 162, 0, 113, 3, 54, 6, 21, 6, 42, 180, 0, 3, 180, 0, 19, 180, 0, 43]
abbrev dktX8_tell_5 : List UInt8 := dkwX8_tell_5 ++ dktX8_tell_6
def dkwX8_tell_4 : List UInt8 := [180, 0, 15, 21, 5, 21, 7, 79, 132, 6, 1, 167, 255, 190, 132, 5, 1, 167, 255, 166, 3, 54, 5]
abbrev dktX8_tell_4 : List UInt8 := dkwX8_tell_4 ++ dktX8_tell_5
def dkwX8_tell_3 : List UInt8 := [180, 0, 15, 21, 5, 46, 153, 0, 15, 21, 7, 42, 180, 0, 15, 21, 5, 46, 162, 0, 12, 42]
abbrev dktX8_tell_3 : List UInt8 := dkwX8_tell_3 ++ dktX8_tell_4
def dkwX8_tell_2 : List UInt8 := [180, 0, 35, 21, 6, 50, 43, 28, 29, 21, 5, 3, 182, 0, 39, 54, 7, 21, 7, 158, 0, 34, 42]
abbrev dktX8_tell_2 : List UInt8 := dkwX8_tell_2 ++ dktX8_tell_3
def dkwX8_tell_1 : List UInt8 := [162, 0, 89, 42, 180, 0, 15, 21, 5, 3, 79, 3, 54, 6, 21, 6, 5, 163, 0, 66, 42, 180, 0, 3]
abbrev dktX8_tell_1 : List UInt8 := dkwX8_tell_1 ++ dktX8_tell_2
def dkwX8_tell_0 : List UInt8 := [42, 180, 0, 3, 180, 0, 19, 180, 0, 23, 185, 0, 29, 1, 0, 54, 4, 3, 54, 5, 21, 5, 21, 4]
abbrev dktX8_tell_0 : List UInt8 := dkwX8_tell_0 ++ dktX8_tell_1
theorem dksX8_tell_0 : cX8_tell.data.toList.drop 0 = dktX8_tell_0 := by decide +kernel
theorem dksX8_tell_1 : cX8_tell.data.toList.drop 24 = dktX8_tell_1 := dk_seg dksX8_tell_0 24 rfl rfl
theorem dksX8_tell_2 : cX8_tell.data.toList.drop 48 = dktX8_tell_2 := dk_seg dksX8_tell_1 24 rfl rfl
theorem dksX8_tell_3 : cX8_tell.data.toList.drop 71 = dktX8_tell_3 := dk_seg dksX8_tell_2 23 rfl rfl
theorem dksX8_tell_4 : cX8_tell.data.toList.drop 93 = dktX8_tell_4 := dk_seg dksX8_tell_3 22 rfl rfl
theorem dksX8_tell_5 : cX8_tell.data.toList.drop 116 = dktX8_tell_5 := dk_seg dksX8_tell_4 23 rfl rfl
theorem dksX8_tell_6 : cX8_tell.data.toList.drop 138 = dktX8_tell_6 := dk_seg dksX8_tell_5 22 rfl rfl
theorem dksX8_tell_7 : cX8_tell.data.toList.drop 158 = dktX8_tell_7 := dk_seg dksX8_tell_6 20 rfl rfl
theorem dksX8_tell_8 : cX8_tell.data.toList.drop 182 = dktX8_tell_8 := dk_seg dksX8_tell_7 24 rfl rfl
theorem dksX8_tell_9 : cX8_tell.data.toList.drop 206 = dktX8_tell_9 := dk_seg dksX8_tell_8 24 rfl rfl
theorem dksX8_tell_10 : cX8_tell.data.toList.drop 230 = dktX8_tell_10 := dk_seg dksX8_tell_9 24 rfl rfl
theorem dX8_tell_0 : decode cX8_tell 0 = .ok (.aload_n 0, 1) := dk_42 (dk_at dksX8_tell_0 0 rfl rfl)
theorem dX8_tell_1 : decode cX8_tell 1 = .ok (.getfield 3, 3) := dk_180 0 3 (dk_at dksX8_tell_0 1 rfl rfl)
theorem dX8_tell_4 : decode cX8_tell 4 = .ok (.getfield 19, 3) := dk_180 0 19 (dk_at dksX8_tell_0 4 rfl rfl)
theorem dX8_tell_7 : decode cX8_tell 7 = .ok (.getfield 23, 3) := dk_180 0 23 (dk_at dksX8_tell_0 7 rfl rfl)
theorem dX8_tell_10 : decode cX8_tell 10 = .ok (.invokeinterface 29 1, 5) := by decide +kernel
theorem dX8_tell_15 : decode cX8_tell 15 = .ok (.istore 4, 2) := dk_54 4 (dk_at dksX8_tell_0 15 rfl rfl)
theorem dX8_tell_17 : decode cX8_tell 17 = .ok (.iconst 0, 1) := dk_3 (dk_at dksX8_tell_0 17 rfl rfl)
theorem dX8_tell_18 : decode cX8_tell 18 = .ok (.istore 5, 2) := dk_54 5 (dk_at dksX8_tell_0 18 rfl rfl)
theorem dX8_tell_20 : decode cX8_tell 20 = .ok (.iload 5, 2) := dk_21 5 (dk_at dksX8_tell_0 20 rfl rfl)
theorem dX8_tell_22 : decode cX8_tell 22 = .ok (.iload 4, 2) := dk_21 4 (dk_at dksX8_tell_0 22 rfl rfl)
theorem dX8_tell_24 : decode cX8_tell 24 = .ok (.if_icmp .ge 89, 3) := dk_162 0 89 (dk_at dksX8_tell_1 0 rfl rfl)
theorem dX8_tell_27 : decode cX8_tell 27 = .ok (.aload_n 0, 1) := dk_42 (dk_at dksX8_tell_1 3 rfl rfl)
theorem dX8_tell_28 : decode cX8_tell 28 = .ok (.getfield 15, 3) := dk_180 0 15 (dk_at dksX8_tell_1 4 rfl rfl)
theorem dX8_tell_31 : decode cX8_tell 31 = .ok (.iload 5, 2) := dk_21 5 (dk_at dksX8_tell_1 7 rfl rfl)
theorem dX8_tell_33 : decode cX8_tell 33 = .ok (.iconst 0, 1) := dk_3 (dk_at dksX8_tell_1 9 rfl rfl)
theorem dX8_tell_34 : decode cX8_tell 34 = .ok (.iastore, 1) := dk_79 (dk_at dksX8_tell_1 10 rfl rfl)
theorem dX8_tell_35 : decode cX8_tell 35 = .ok (.iconst 0, 1) := dk_3 (dk_at dksX8_tell_1 11 rfl rfl)
theorem dX8_tell_36 : decode cX8_tell 36 = .ok (.istore 6, 2) := dk_54 6 (dk_at dksX8_tell_1 12 rfl rfl)
theorem dX8_tell_38 : decode cX8_tell 38 = .ok (.iload 6, 2) := dk_21 6 (dk_at dksX8_tell_1 14 rfl rfl)
theorem dX8_tell_40 : decode cX8_tell 40 = .ok (.iconst 2, 1) := dk_5 (dk_at dksX8_tell_1 16 rfl rfl)
theorem dX8_tell_41 : decode cX8_tell 41 = .ok (.if_icmp .gt 66, 3) := dk_163 0 66 (dk_at dksX8_tell_1 17 rfl rfl)
theorem dX8_tell_44 : decode cX8_tell 44 = .ok (.aload_n 0, 1) := dk_42 (dk_at dksX8_tell_1 20 rfl rfl)
theorem dX8_tell_45 : decode cX8_tell 45 = .ok (.getfield 3, 3) := dk_180 0 3 (dk_at dksX8_tell_1 21 rfl rfl)
theorem dX8_tell_48 : decode cX8_tell 48 = .ok (.getfield 35, 3) := dk_180 0 35 (dk_at dksX8_tell_2 0 rfl rfl)
theorem dX8_tell_51 : decode cX8_tell 51 = .ok (.iload 6, 2) := dk_21 6 (dk_at dksX8_tell_2 3 rfl rfl)
theorem dX8_tell_53 : decode cX8_tell 53 = .ok (.aaload, 1) := dk_50 (dk_at dksX8_tell_2 5 rfl rfl)
theorem dX8_tell_54 : decode cX8_tell 54 = .ok (.aload_n 1, 1) := dk_43 (dk_at dksX8_tell_2 6 rfl rfl)
theorem dX8_tell_55 : decode cX8_tell 55 = .ok (.iload_n 2, 1) := dk_28 (dk_at dksX8_tell_2 7 rfl rfl)
theorem dX8_tell_56 : decode cX8_tell 56 = .ok (.iload_n 3, 1) := dk_29 (dk_at dksX8_tell_2 8 rfl rfl)
theorem dX8_tell_57 : decode cX8_tell 57 = .ok (.iload 5, 2) := dk_21 5 (dk_at dksX8_tell_2 9 rfl rfl)
theorem dX8_tell_59 : decode cX8_tell 59 = .ok (.iconst 0, 1) := dk_3 (dk_at dksX8_tell_2 11 rfl rfl)
theorem dX8_tell_60 : decode cX8_tell 60 = .ok (.invokevirtual 39, 3) := dk_182 0 39 (dk_at dksX8_tell_2 12 rfl rfl)
theorem dX8_tell_63 : decode cX8_tell 63 = .ok (.istore 7, 2) := dk_54 7 (dk_at dksX8_tell_2 15 rfl rfl)
theorem dX8_tell_65 : decode cX8_tell 65 = .ok (.iload 7, 2) := dk_21 7 (dk_at dksX8_tell_2 17 rfl rfl)
theorem dX8_tell_67 : decode cX8_tell 67 = .ok (.ifCond .le 34, 3) := dk_158 0 34 (dk_at dksX8_tell_2 19 rfl rfl)
theorem dX8_tell_70 : decode cX8_tell 70 = .ok (.aload_n 0, 1) := dk_42 (dk_at dksX8_tell_2 22 rfl rfl)
theorem dX8_tell_71 : decode cX8_tell 71 = .ok (.getfield 15, 3) := dk_180 0 15 (dk_at dksX8_tell_3 0 rfl rfl)
theorem dX8_tell_74 : decode cX8_tell 74 = .ok (.iload 5, 2) := dk_21 5 (dk_at dksX8_tell_3 3 rfl rfl)
theorem dX8_tell_76 : decode cX8_tell 76 = .ok (.iaload, 1) := dk_46 (dk_at dksX8_tell_3 5 rfl rfl)
theorem dX8_tell_77 : decode cX8_tell 77 = .ok (.ifCond .eq 15, 3) := dk_153 0 15 (dk_at dksX8_tell_3 6 rfl rfl)
theorem dX8_tell_80 : decode cX8_tell 80 = .ok (.iload 7, 2) := dk_21 7 (dk_at dksX8_tell_3 9 rfl rfl)
theorem dX8_tell_82 : decode cX8_tell 82 = .ok (.aload_n 0, 1) := dk_42 (dk_at dksX8_tell_3 11 rfl rfl)
theorem dX8_tell_83 : decode cX8_tell 83 = .ok (.getfield 15, 3) := dk_180 0 15 (dk_at dksX8_tell_3 12 rfl rfl)
theorem dX8_tell_86 : decode cX8_tell 86 = .ok (.iload 5, 2) := dk_21 5 (dk_at dksX8_tell_3 15 rfl rfl)
theorem dX8_tell_88 : decode cX8_tell 88 = .ok (.iaload, 1) := dk_46 (dk_at dksX8_tell_3 17 rfl rfl)
theorem dX8_tell_89 : decode cX8_tell 89 = .ok (.if_icmp .ge 12, 3) := dk_162 0 12 (dk_at dksX8_tell_3 18 rfl rfl)
theorem dX8_tell_92 : decode cX8_tell 92 = .ok (.aload_n 0, 1) := dk_42 (dk_at dksX8_tell_3 21 rfl rfl)
theorem dX8_tell_93 : decode cX8_tell 93 = .ok (.getfield 15, 3) := dk_180 0 15 (dk_at dksX8_tell_4 0 rfl rfl)
theorem dX8_tell_96 : decode cX8_tell 96 = .ok (.iload 5, 2) := dk_21 5 (dk_at dksX8_tell_4 3 rfl rfl)
theorem dX8_tell_98 : decode cX8_tell 98 = .ok (.iload 7, 2) := dk_21 7 (dk_at dksX8_tell_4 5 rfl rfl)
theorem dX8_tell_100 : decode cX8_tell 100 = .ok (.iastore, 1) := dk_79 (dk_at dksX8_tell_4 7 rfl rfl)
theorem dX8_tell_101 : decode cX8_tell 101 = .ok (.iinc 6 1, 3) := dk_132 6 1 (dk_at dksX8_tell_4 8 rfl rfl)
theorem dX8_tell_104 : decode cX8_tell 104 = .ok (.goto (-66), 3) := dk_167 255 190 (dk_at dksX8_tell_4 11 rfl rfl)
theorem dX8_tell_107 : decode cX8_tell 107 = .ok (.iinc 5 1, 3) := dk_132 5 1 (dk_at dksX8_tell_4 14 rfl rfl)
theorem dX8_tell_110 : decode cX8_tell 110 = .ok (.goto (-90), 3) := dk_167 255 166 (dk_at dksX8_tell_4 17 rfl rfl)
theorem dX8_tell_113 : decode cX8_tell 113 = .ok (.iconst 0, 1) := dk_3 (dk_at dksX8_tell_4 20 rfl rfl)
theorem dX8_tell_114 : decode cX8_tell 114 = .ok (.istore 5, 2) := dk_54 5 (dk_at dksX8_tell_4 21 rfl rfl)
theorem dX8_tell_116 : decode cX8_tell 116 = .ok (.iload 5, 2) := dk_21 5 (dk_at dksX8_tell_5 0 rfl rfl)
theorem dX8_tell_118 : decode cX8_tell 118 = .ok (.iload 4, 2) := dk_21 4 (dk_at dksX8_tell_5 2 rfl rfl)
theorem dX8_tell_120 : decode cX8_tell 120 = .ok (.if_icmp .ge 113, 3) := dk_162 0 113 (dk_at dksX8_tell_5 4 rfl rfl)
theorem dX8_tell_123 : decode cX8_tell 123 = .ok (.iconst 0, 1) := dk_3 (dk_at dksX8_tell_5 7 rfl rfl)
theorem dX8_tell_124 : decode cX8_tell 124 = .ok (.istore 6, 2) := dk_54 6 (dk_at dksX8_tell_5 8 rfl rfl)
theorem dX8_tell_126 : decode cX8_tell 126 = .ok (.iload 6, 2) := dk_21 6 (dk_at dksX8_tell_5 10 rfl rfl)
theorem dX8_tell_128 : decode cX8_tell 128 = .ok (.aload_n 0, 1) := dk_42 (dk_at dksX8_tell_5 12 rfl rfl)
theorem dX8_tell_129 : decode cX8_tell 129 = .ok (.getfield 3, 3) := dk_180 0 3 (dk_at dksX8_tell_5 13 rfl rfl)
theorem dX8_tell_132 : decode cX8_tell 132 = .ok (.getfield 19, 3) := dk_180 0 19 (dk_at dksX8_tell_5 16 rfl rfl)
theorem dX8_tell_135 : decode cX8_tell 135 = .ok (.getfield 43, 3) := dk_180 0 43 (dk_at dksX8_tell_5 19 rfl rfl)
theorem dX8_tell_138 : decode cX8_tell 138 = .ok (.invokeinterface 29 1, 5) := by decide +kernel
theorem dX8_tell_143 : decode cX8_tell 143 = .ok (.if_icmp .ge 84, 3) := dk_162 0 84 (dk_at dksX8_tell_6 5 rfl rfl)
theorem dX8_tell_146 : decode cX8_tell 146 = .ok (.aload_n 0, 1) := dk_42 (dk_at dksX8_tell_6 8 rfl rfl)
theorem dX8_tell_147 : decode cX8_tell 147 = .ok (.getfield 3, 3) := dk_180 0 3 (dk_at dksX8_tell_6 9 rfl rfl)
theorem dX8_tell_150 : decode cX8_tell 150 = .ok (.getfield 19, 3) := dk_180 0 19 (dk_at dksX8_tell_6 12 rfl rfl)
theorem dX8_tell_153 : decode cX8_tell 153 = .ok (.getfield 43, 3) := dk_180 0 43 (dk_at dksX8_tell_6 15 rfl rfl)
theorem dX8_tell_156 : decode cX8_tell 156 = .ok (.iload 6, 2) := dk_21 6 (dk_at dksX8_tell_6 18 rfl rfl)
theorem dX8_tell_158 : decode cX8_tell 158 = .ok (.invokeinterface 46 2, 5) := by decide +kernel
theorem dX8_tell_163 : decode cX8_tell 163 = .ok (.checkcast 50, 3) := dk_192 0 50 (dk_at dksX8_tell_7 5 rfl rfl)
theorem dX8_tell_166 : decode cX8_tell 166 = .ok (.astore 7, 2) := dk_58 7 (dk_at dksX8_tell_7 8 rfl rfl)
theorem dX8_tell_168 : decode cX8_tell 168 = .ok (.aload_n 0, 1) := dk_42 (dk_at dksX8_tell_7 10 rfl rfl)
theorem dX8_tell_169 : decode cX8_tell 169 = .ok (.aload 7, 2) := dk_25 7 (dk_at dksX8_tell_7 11 rfl rfl)
theorem dX8_tell_171 : decode cX8_tell 171 = .ok (.invokevirtual 52, 3) := dk_182 0 52 (dk_at dksX8_tell_7 13 rfl rfl)
theorem dX8_tell_174 : decode cX8_tell 174 = .ok (.istore 8, 2) := dk_54 8 (dk_at dksX8_tell_7 16 rfl rfl)
theorem dX8_tell_176 : decode cX8_tell 176 = .ok (.iload 8, 2) := dk_21 8 (dk_at dksX8_tell_7 18 rfl rfl)
theorem dX8_tell_178 : decode cX8_tell 178 = .ok (.ifCond .le 43, 3) := dk_158 0 43 (dk_at dksX8_tell_7 20 rfl rfl)
theorem dX8_tell_181 : decode cX8_tell 181 = .ok (.aload_n 0, 1) := dk_42 (dk_at dksX8_tell_7 23 rfl rfl)
theorem dX8_tell_182 : decode cX8_tell 182 = .ok (.getfield 15, 3) := dk_180 0 15 (dk_at dksX8_tell_8 0 rfl rfl)
theorem dX8_tell_185 : decode cX8_tell 185 = .ok (.aload 7, 2) := dk_25 7 (dk_at dksX8_tell_8 3 rfl rfl)
theorem dX8_tell_187 : decode cX8_tell 187 = .ok (.getfield 56, 3) := dk_180 0 56 (dk_at dksX8_tell_8 5 rfl rfl)
theorem dX8_tell_190 : decode cX8_tell 190 = .ok (.iaload, 1) := dk_46 (dk_at dksX8_tell_8 8 rfl rfl)
theorem dX8_tell_191 : decode cX8_tell 191 = .ok (.ifCond .eq 18, 3) := dk_153 0 18 (dk_at dksX8_tell_8 9 rfl rfl)
theorem dX8_tell_194 : decode cX8_tell 194 = .ok (.iload 8, 2) := dk_21 8 (dk_at dksX8_tell_8 12 rfl rfl)
theorem dX8_tell_196 : decode cX8_tell 196 = .ok (.aload_n 0, 1) := dk_42 (dk_at dksX8_tell_8 14 rfl rfl)
theorem dX8_tell_197 : decode cX8_tell 197 = .ok (.getfield 15, 3) := dk_180 0 15 (dk_at dksX8_tell_8 15 rfl rfl)
theorem dX8_tell_200 : decode cX8_tell 200 = .ok (.aload 7, 2) := dk_25 7 (dk_at dksX8_tell_8 18 rfl rfl)
theorem dX8_tell_202 : decode cX8_tell 202 = .ok (.getfield 56, 3) := dk_180 0 56 (dk_at dksX8_tell_8 20 rfl rfl)
theorem dX8_tell_205 : decode cX8_tell 205 = .ok (.iaload, 1) := dk_46 (dk_at dksX8_tell_8 23 rfl rfl)
theorem dX8_tell_206 : decode cX8_tell 206 = .ok (.if_icmp .ge 15, 3) := dk_162 0 15 (dk_at dksX8_tell_9 0 rfl rfl)
theorem dX8_tell_209 : decode cX8_tell 209 = .ok (.aload_n 0, 1) := dk_42 (dk_at dksX8_tell_9 3 rfl rfl)
theorem dX8_tell_210 : decode cX8_tell 210 = .ok (.getfield 15, 3) := dk_180 0 15 (dk_at dksX8_tell_9 4 rfl rfl)
theorem dX8_tell_213 : decode cX8_tell 213 = .ok (.aload 7, 2) := dk_25 7 (dk_at dksX8_tell_9 7 rfl rfl)
theorem dX8_tell_215 : decode cX8_tell 215 = .ok (.getfield 56, 3) := dk_180 0 56 (dk_at dksX8_tell_9 9 rfl rfl)
theorem dX8_tell_218 : decode cX8_tell 218 = .ok (.iload 8, 2) := dk_21 8 (dk_at dksX8_tell_9 12 rfl rfl)
theorem dX8_tell_220 : decode cX8_tell 220 = .ok (.iastore, 1) := dk_79 (dk_at dksX8_tell_9 14 rfl rfl)
theorem dX8_tell_221 : decode cX8_tell 221 = .ok (.iinc 6 1, 3) := dk_132 6 1 (dk_at dksX8_tell_9 15 rfl rfl)
theorem dX8_tell_224 : decode cX8_tell 224 = .ok (.goto (-98), 3) := dk_167 255 158 (dk_at dksX8_tell_9 18 rfl rfl)
theorem dX8_tell_227 : decode cX8_tell 227 = .ok (.iinc 5 1, 3) := dk_132 5 1 (dk_at dksX8_tell_9 21 rfl rfl)
theorem dX8_tell_230 : decode cX8_tell 230 = .ok (.goto (-114), 3) := dk_167 255 142 (dk_at dksX8_tell_10 0 rfl rfl)
theorem dX8_tell_233 : decode cX8_tell 233 = .ok (.return_, 1) := dk_177 (dk_at dksX8_tell_10 3 rfl rfl)
abbrev cX8_ruleRound : ByteArray := prog_16_method_3_code
def yX8_ruleRound : MethodName := ⟨RX8, "ruleRound", "(LEndingTown$Rule;)I"⟩
def dkwX8_ruleRound_2 : List UInt8 := [167, 255, 213, 28, 4, 96, 172]
abbrev dktX8_ruleRound_2 : List UInt8 := dkwX8_ruleRound_2 ++ []
def dkwX8_ruleRound_1 : List UInt8 := [154, 0, 5, 3, 172, 28, 42, 180, 0, 15, 43, 180, 0, 63, 29, 46, 46, 184, 0, 66, 61, 132, 3, 1]
abbrev dktX8_ruleRound_1 : List UInt8 := dkwX8_ruleRound_1 ++ dktX8_ruleRound_2
def dkwX8_ruleRound_0 : List UInt8 := [3, 61, 3, 62, 29, 43, 180, 0, 60, 162, 0, 41, 42, 180, 0, 15, 43, 180, 0, 63, 29, 46, 46]
abbrev dktX8_ruleRound_0 : List UInt8 := dkwX8_ruleRound_0 ++ dktX8_ruleRound_1
theorem dksX8_ruleRound_0 : cX8_ruleRound.data.toList.drop 0 = dktX8_ruleRound_0 := by decide +kernel
theorem dksX8_ruleRound_1 : cX8_ruleRound.data.toList.drop 23 = dktX8_ruleRound_1 := dk_seg dksX8_ruleRound_0 23 rfl rfl
theorem dksX8_ruleRound_2 : cX8_ruleRound.data.toList.drop 47 = dktX8_ruleRound_2 := dk_seg dksX8_ruleRound_1 24 rfl rfl
theorem dX8_ruleRound_0 : decode cX8_ruleRound 0 = .ok (.iconst 0, 1) := dk_3 (dk_at dksX8_ruleRound_0 0 rfl rfl)
theorem dX8_ruleRound_1 : decode cX8_ruleRound 1 = .ok (.istore_n 2, 1) := dk_61 (dk_at dksX8_ruleRound_0 1 rfl rfl)
theorem dX8_ruleRound_2 : decode cX8_ruleRound 2 = .ok (.iconst 0, 1) := dk_3 (dk_at dksX8_ruleRound_0 2 rfl rfl)
theorem dX8_ruleRound_3 : decode cX8_ruleRound 3 = .ok (.istore_n 3, 1) := dk_62 (dk_at dksX8_ruleRound_0 3 rfl rfl)
theorem dX8_ruleRound_4 : decode cX8_ruleRound 4 = .ok (.iload_n 3, 1) := dk_29 (dk_at dksX8_ruleRound_0 4 rfl rfl)
theorem dX8_ruleRound_5 : decode cX8_ruleRound 5 = .ok (.aload_n 1, 1) := dk_43 (dk_at dksX8_ruleRound_0 5 rfl rfl)
theorem dX8_ruleRound_6 : decode cX8_ruleRound 6 = .ok (.getfield 60, 3) := dk_180 0 60 (dk_at dksX8_ruleRound_0 6 rfl rfl)
theorem dX8_ruleRound_9 : decode cX8_ruleRound 9 = .ok (.if_icmp .ge 41, 3) := dk_162 0 41 (dk_at dksX8_ruleRound_0 9 rfl rfl)
theorem dX8_ruleRound_12 : decode cX8_ruleRound 12 = .ok (.aload_n 0, 1) := dk_42 (dk_at dksX8_ruleRound_0 12 rfl rfl)
theorem dX8_ruleRound_13 : decode cX8_ruleRound 13 = .ok (.getfield 15, 3) := dk_180 0 15 (dk_at dksX8_ruleRound_0 13 rfl rfl)
theorem dX8_ruleRound_16 : decode cX8_ruleRound 16 = .ok (.aload_n 1, 1) := dk_43 (dk_at dksX8_ruleRound_0 16 rfl rfl)
theorem dX8_ruleRound_17 : decode cX8_ruleRound 17 = .ok (.getfield 63, 3) := dk_180 0 63 (dk_at dksX8_ruleRound_0 17 rfl rfl)
theorem dX8_ruleRound_20 : decode cX8_ruleRound 20 = .ok (.iload_n 3, 1) := dk_29 (dk_at dksX8_ruleRound_0 20 rfl rfl)
theorem dX8_ruleRound_21 : decode cX8_ruleRound 21 = .ok (.iaload, 1) := dk_46 (dk_at dksX8_ruleRound_0 21 rfl rfl)
theorem dX8_ruleRound_22 : decode cX8_ruleRound 22 = .ok (.iaload, 1) := dk_46 (dk_at dksX8_ruleRound_0 22 rfl rfl)
theorem dX8_ruleRound_23 : decode cX8_ruleRound 23 = .ok (.ifCond .ne 5, 3) := dk_154 0 5 (dk_at dksX8_ruleRound_1 0 rfl rfl)
theorem dX8_ruleRound_26 : decode cX8_ruleRound 26 = .ok (.iconst 0, 1) := dk_3 (dk_at dksX8_ruleRound_1 3 rfl rfl)
theorem dX8_ruleRound_27 : decode cX8_ruleRound 27 = .ok (.ireturn, 1) := dk_172 (dk_at dksX8_ruleRound_1 4 rfl rfl)
theorem dX8_ruleRound_28 : decode cX8_ruleRound 28 = .ok (.iload_n 2, 1) := dk_28 (dk_at dksX8_ruleRound_1 5 rfl rfl)
theorem dX8_ruleRound_29 : decode cX8_ruleRound 29 = .ok (.aload_n 0, 1) := dk_42 (dk_at dksX8_ruleRound_1 6 rfl rfl)
theorem dX8_ruleRound_30 : decode cX8_ruleRound 30 = .ok (.getfield 15, 3) := dk_180 0 15 (dk_at dksX8_ruleRound_1 7 rfl rfl)
theorem dX8_ruleRound_33 : decode cX8_ruleRound 33 = .ok (.aload_n 1, 1) := dk_43 (dk_at dksX8_ruleRound_1 10 rfl rfl)
theorem dX8_ruleRound_34 : decode cX8_ruleRound 34 = .ok (.getfield 63, 3) := dk_180 0 63 (dk_at dksX8_ruleRound_1 11 rfl rfl)
theorem dX8_ruleRound_37 : decode cX8_ruleRound 37 = .ok (.iload_n 3, 1) := dk_29 (dk_at dksX8_ruleRound_1 14 rfl rfl)
theorem dX8_ruleRound_38 : decode cX8_ruleRound 38 = .ok (.iaload, 1) := dk_46 (dk_at dksX8_ruleRound_1 15 rfl rfl)
theorem dX8_ruleRound_39 : decode cX8_ruleRound 39 = .ok (.iaload, 1) := dk_46 (dk_at dksX8_ruleRound_1 16 rfl rfl)
theorem dX8_ruleRound_40 : decode cX8_ruleRound 40 = .ok (.invokestatic 66, 3) := dk_184 0 66 (dk_at dksX8_ruleRound_1 17 rfl rfl)
theorem dX8_ruleRound_43 : decode cX8_ruleRound 43 = .ok (.istore_n 2, 1) := dk_61 (dk_at dksX8_ruleRound_1 20 rfl rfl)
theorem dX8_ruleRound_44 : decode cX8_ruleRound 44 = .ok (.iinc 3 1, 3) := dk_132 3 1 (dk_at dksX8_ruleRound_1 21 rfl rfl)
theorem dX8_ruleRound_47 : decode cX8_ruleRound 47 = .ok (.goto (-43), 3) := dk_167 255 213 (dk_at dksX8_ruleRound_2 0 rfl rfl)
theorem dX8_ruleRound_50 : decode cX8_ruleRound 50 = .ok (.iload_n 2, 1) := dk_28 (dk_at dksX8_ruleRound_2 3 rfl rfl)
theorem dX8_ruleRound_51 : decode cX8_ruleRound 51 = .ok (.iconst 1, 1) := dk_4 (dk_at dksX8_ruleRound_2 4 rfl rfl)
theorem dX8_ruleRound_52 : decode cX8_ruleRound 52 = .ok (.iadd, 1) := dk_96 (dk_at dksX8_ruleRound_2 5 rfl rfl)
theorem dX8_ruleRound_53 : decode cX8_ruleRound 53 = .ok (.ireturn, 1) := dk_172 (dk_at dksX8_ruleRound_2 6 rfl rfl)
abbrev cX8_eyes : ByteArray := prog_16_method_5_code
def yX8_eyes : MethodName := ⟨RX8, "eyes", "(LEndingTown$Day;IIIZI)I"⟩
def dkwX8_eyes_5 : List UInt8 := [54, 7, 132, 10, 1, 167, 255, 216, 132, 8, 1, 167, 255, 136, 21, 7, 172]
abbrev dktX8_eyes_5 : List UInt8 := dkwX8_eyes_5 ++ []
def dkwX8_eyes_4 : List UInt8 := [43, 28, 29, 25, 9, 180, 0, 63, 21, 10, 46, 3, 21, 6, 4, 21, 4, 120, 128, 182, 0, 76, 128]
abbrev dktX8_eyes_4 : List UInt8 := dkwX8_eyes_4 ++ dktX8_eyes_5
def dkwX8_eyes_3 : List UInt8 := [182, 0, 52, 154, 0, 6, 167, 0, 49, 3, 54, 10, 21, 10, 25, 9, 180, 0, 60, 162, 0, 36, 21, 7]
abbrev dktX8_eyes_3 : List UInt8 := dkwX8_eyes_3 ++ dktX8_eyes_4
def dkwX8_eyes_2 : List UInt8 := [58, 9, 42, 43, 28, 29, 182, 0, 72, 25, 9, 180, 0, 56, 21, 4, 160, 0, 61, 42, 25, 9]
abbrev dktX8_eyes_2 : List UInt8 := dkwX8_eyes_2 ++ dktX8_eyes_3
def dkwX8_eyes_1 : List UInt8 := [162, 0, 106, 42, 180, 0, 3, 180, 0, 19, 180, 0, 43, 21, 8, 185, 0, 46, 2, 0, 192, 0, 50]
abbrev dktX8_eyes_1 : List UInt8 := dkwX8_eyes_1 ++ dktX8_eyes_2
def dkwX8_eyes_0 : List UInt8 := [3, 54, 7, 3, 54, 8, 21, 8, 42, 180, 0, 3, 180, 0, 19, 180, 0, 43, 185, 0, 29, 1, 0]
abbrev dktX8_eyes_0 : List UInt8 := dkwX8_eyes_0 ++ dktX8_eyes_1
theorem dksX8_eyes_0 : cX8_eyes.data.toList.drop 0 = dktX8_eyes_0 := by decide +kernel
theorem dksX8_eyes_1 : cX8_eyes.data.toList.drop 23 = dktX8_eyes_1 := dk_seg dksX8_eyes_0 23 rfl rfl
theorem dksX8_eyes_2 : cX8_eyes.data.toList.drop 46 = dktX8_eyes_2 := dk_seg dksX8_eyes_1 23 rfl rfl
theorem dksX8_eyes_3 : cX8_eyes.data.toList.drop 68 = dktX8_eyes_3 := dk_seg dksX8_eyes_2 22 rfl rfl
theorem dksX8_eyes_4 : cX8_eyes.data.toList.drop 92 = dktX8_eyes_4 := dk_seg dksX8_eyes_3 24 rfl rfl
theorem dksX8_eyes_5 : cX8_eyes.data.toList.drop 115 = dktX8_eyes_5 := dk_seg dksX8_eyes_4 23 rfl rfl
theorem dX8_eyes_0 : decode cX8_eyes 0 = .ok (.iconst 0, 1) := dk_3 (dk_at dksX8_eyes_0 0 rfl rfl)
theorem dX8_eyes_1 : decode cX8_eyes 1 = .ok (.istore 7, 2) := dk_54 7 (dk_at dksX8_eyes_0 1 rfl rfl)
theorem dX8_eyes_3 : decode cX8_eyes 3 = .ok (.iconst 0, 1) := dk_3 (dk_at dksX8_eyes_0 3 rfl rfl)
theorem dX8_eyes_4 : decode cX8_eyes 4 = .ok (.istore 8, 2) := dk_54 8 (dk_at dksX8_eyes_0 4 rfl rfl)
theorem dX8_eyes_6 : decode cX8_eyes 6 = .ok (.iload 8, 2) := dk_21 8 (dk_at dksX8_eyes_0 6 rfl rfl)
theorem dX8_eyes_8 : decode cX8_eyes 8 = .ok (.aload_n 0, 1) := dk_42 (dk_at dksX8_eyes_0 8 rfl rfl)
theorem dX8_eyes_9 : decode cX8_eyes 9 = .ok (.getfield 3, 3) := dk_180 0 3 (dk_at dksX8_eyes_0 9 rfl rfl)
theorem dX8_eyes_12 : decode cX8_eyes 12 = .ok (.getfield 19, 3) := dk_180 0 19 (dk_at dksX8_eyes_0 12 rfl rfl)
theorem dX8_eyes_15 : decode cX8_eyes 15 = .ok (.getfield 43, 3) := dk_180 0 43 (dk_at dksX8_eyes_0 15 rfl rfl)
theorem dX8_eyes_18 : decode cX8_eyes 18 = .ok (.invokeinterface 29 1, 5) := by decide +kernel
theorem dX8_eyes_23 : decode cX8_eyes 23 = .ok (.if_icmp .ge 106, 3) := dk_162 0 106 (dk_at dksX8_eyes_1 0 rfl rfl)
theorem dX8_eyes_26 : decode cX8_eyes 26 = .ok (.aload_n 0, 1) := dk_42 (dk_at dksX8_eyes_1 3 rfl rfl)
theorem dX8_eyes_27 : decode cX8_eyes 27 = .ok (.getfield 3, 3) := dk_180 0 3 (dk_at dksX8_eyes_1 4 rfl rfl)
theorem dX8_eyes_30 : decode cX8_eyes 30 = .ok (.getfield 19, 3) := dk_180 0 19 (dk_at dksX8_eyes_1 7 rfl rfl)
theorem dX8_eyes_33 : decode cX8_eyes 33 = .ok (.getfield 43, 3) := dk_180 0 43 (dk_at dksX8_eyes_1 10 rfl rfl)
theorem dX8_eyes_36 : decode cX8_eyes 36 = .ok (.iload 8, 2) := dk_21 8 (dk_at dksX8_eyes_1 13 rfl rfl)
theorem dX8_eyes_38 : decode cX8_eyes 38 = .ok (.invokeinterface 46 2, 5) := by decide +kernel
theorem dX8_eyes_43 : decode cX8_eyes 43 = .ok (.checkcast 50, 3) := dk_192 0 50 (dk_at dksX8_eyes_1 20 rfl rfl)
theorem dX8_eyes_46 : decode cX8_eyes 46 = .ok (.astore 9, 2) := dk_58 9 (dk_at dksX8_eyes_2 0 rfl rfl)
theorem dX8_eyes_48 : decode cX8_eyes 48 = .ok (.aload_n 0, 1) := dk_42 (dk_at dksX8_eyes_2 2 rfl rfl)
theorem dX8_eyes_49 : decode cX8_eyes 49 = .ok (.aload_n 1, 1) := dk_43 (dk_at dksX8_eyes_2 3 rfl rfl)
theorem dX8_eyes_50 : decode cX8_eyes 50 = .ok (.iload_n 2, 1) := dk_28 (dk_at dksX8_eyes_2 4 rfl rfl)
theorem dX8_eyes_51 : decode cX8_eyes 51 = .ok (.iload_n 3, 1) := dk_29 (dk_at dksX8_eyes_2 5 rfl rfl)
theorem dX8_eyes_52 : decode cX8_eyes 52 = .ok (.invokevirtual 72, 3) := dk_182 0 72 (dk_at dksX8_eyes_2 6 rfl rfl)
theorem dX8_eyes_55 : decode cX8_eyes 55 = .ok (.aload 9, 2) := dk_25 9 (dk_at dksX8_eyes_2 9 rfl rfl)
theorem dX8_eyes_57 : decode cX8_eyes 57 = .ok (.getfield 56, 3) := dk_180 0 56 (dk_at dksX8_eyes_2 11 rfl rfl)
theorem dX8_eyes_60 : decode cX8_eyes 60 = .ok (.iload 4, 2) := dk_21 4 (dk_at dksX8_eyes_2 14 rfl rfl)
theorem dX8_eyes_62 : decode cX8_eyes 62 = .ok (.if_icmp .ne 61, 3) := dk_160 0 61 (dk_at dksX8_eyes_2 16 rfl rfl)
theorem dX8_eyes_65 : decode cX8_eyes 65 = .ok (.aload_n 0, 1) := dk_42 (dk_at dksX8_eyes_2 19 rfl rfl)
theorem dX8_eyes_66 : decode cX8_eyes 66 = .ok (.aload 9, 2) := dk_25 9 (dk_at dksX8_eyes_2 20 rfl rfl)
theorem dX8_eyes_68 : decode cX8_eyes 68 = .ok (.invokevirtual 52, 3) := dk_182 0 52 (dk_at dksX8_eyes_3 0 rfl rfl)
theorem dX8_eyes_71 : decode cX8_eyes 71 = .ok (.ifCond .ne 6, 3) := dk_154 0 6 (dk_at dksX8_eyes_3 3 rfl rfl)
theorem dX8_eyes_74 : decode cX8_eyes 74 = .ok (.goto 49, 3) := dk_167 0 49 (dk_at dksX8_eyes_3 6 rfl rfl)
theorem dX8_eyes_77 : decode cX8_eyes 77 = .ok (.iconst 0, 1) := dk_3 (dk_at dksX8_eyes_3 9 rfl rfl)
theorem dX8_eyes_78 : decode cX8_eyes 78 = .ok (.istore 10, 2) := dk_54 10 (dk_at dksX8_eyes_3 10 rfl rfl)
theorem dX8_eyes_80 : decode cX8_eyes 80 = .ok (.iload 10, 2) := dk_21 10 (dk_at dksX8_eyes_3 12 rfl rfl)
theorem dX8_eyes_82 : decode cX8_eyes 82 = .ok (.aload 9, 2) := dk_25 9 (dk_at dksX8_eyes_3 14 rfl rfl)
theorem dX8_eyes_84 : decode cX8_eyes 84 = .ok (.getfield 60, 3) := dk_180 0 60 (dk_at dksX8_eyes_3 16 rfl rfl)
theorem dX8_eyes_87 : decode cX8_eyes 87 = .ok (.if_icmp .ge 36, 3) := dk_162 0 36 (dk_at dksX8_eyes_3 19 rfl rfl)
theorem dX8_eyes_90 : decode cX8_eyes 90 = .ok (.iload 7, 2) := dk_21 7 (dk_at dksX8_eyes_3 22 rfl rfl)
theorem dX8_eyes_92 : decode cX8_eyes 92 = .ok (.aload_n 1, 1) := dk_43 (dk_at dksX8_eyes_4 0 rfl rfl)
theorem dX8_eyes_93 : decode cX8_eyes 93 = .ok (.iload_n 2, 1) := dk_28 (dk_at dksX8_eyes_4 1 rfl rfl)
theorem dX8_eyes_94 : decode cX8_eyes 94 = .ok (.iload_n 3, 1) := dk_29 (dk_at dksX8_eyes_4 2 rfl rfl)
theorem dX8_eyes_95 : decode cX8_eyes 95 = .ok (.aload 9, 2) := dk_25 9 (dk_at dksX8_eyes_4 3 rfl rfl)
theorem dX8_eyes_97 : decode cX8_eyes 97 = .ok (.getfield 63, 3) := dk_180 0 63 (dk_at dksX8_eyes_4 5 rfl rfl)
theorem dX8_eyes_100 : decode cX8_eyes 100 = .ok (.iload 10, 2) := dk_21 10 (dk_at dksX8_eyes_4 8 rfl rfl)
theorem dX8_eyes_102 : decode cX8_eyes 102 = .ok (.iaload, 1) := dk_46 (dk_at dksX8_eyes_4 10 rfl rfl)
theorem dX8_eyes_103 : decode cX8_eyes 103 = .ok (.iconst 0, 1) := dk_3 (dk_at dksX8_eyes_4 11 rfl rfl)
theorem dX8_eyes_104 : decode cX8_eyes 104 = .ok (.iload 6, 2) := dk_21 6 (dk_at dksX8_eyes_4 12 rfl rfl)
theorem dX8_eyes_106 : decode cX8_eyes 106 = .ok (.iconst 1, 1) := dk_4 (dk_at dksX8_eyes_4 14 rfl rfl)
theorem dX8_eyes_107 : decode cX8_eyes 107 = .ok (.iload 4, 2) := dk_21 4 (dk_at dksX8_eyes_4 15 rfl rfl)
theorem dX8_eyes_109 : decode cX8_eyes 109 = .ok (.ishl, 1) := dk_120 (dk_at dksX8_eyes_4 17 rfl rfl)
theorem dX8_eyes_110 : decode cX8_eyes 110 = .ok (.ior, 1) := dk_128 (dk_at dksX8_eyes_4 18 rfl rfl)
theorem dX8_eyes_111 : decode cX8_eyes 111 = .ok (.invokevirtual 76, 3) := dk_182 0 76 (dk_at dksX8_eyes_4 19 rfl rfl)
theorem dX8_eyes_114 : decode cX8_eyes 114 = .ok (.ior, 1) := dk_128 (dk_at dksX8_eyes_4 22 rfl rfl)
theorem dX8_eyes_115 : decode cX8_eyes 115 = .ok (.istore 7, 2) := dk_54 7 (dk_at dksX8_eyes_5 0 rfl rfl)
theorem dX8_eyes_117 : decode cX8_eyes 117 = .ok (.iinc 10 1, 3) := dk_132 10 1 (dk_at dksX8_eyes_5 2 rfl rfl)
theorem dX8_eyes_120 : decode cX8_eyes 120 = .ok (.goto (-40), 3) := dk_167 255 216 (dk_at dksX8_eyes_5 5 rfl rfl)
theorem dX8_eyes_123 : decode cX8_eyes 123 = .ok (.iinc 8 1, 3) := dk_132 8 1 (dk_at dksX8_eyes_5 8 rfl rfl)
theorem dX8_eyes_126 : decode cX8_eyes 126 = .ok (.goto (-120), 3) := dk_167 255 136 (dk_at dksX8_eyes_5 11 rfl rfl)
theorem dX8_eyes_129 : decode cX8_eyes 129 = .ok (.iload 7, 2) := dk_21 7 (dk_at dksX8_eyes_5 14 rfl rfl)
theorem dX8_eyes_131 : decode cX8_eyes 131 = .ok (.ireturn, 1) := dk_172 (dk_at dksX8_eyes_5 16 rfl rfl)
theorem q110 : (Jvm.Cond.initialized "EndingTown$Worked") ∈ lw_all := lw_g (lw_at lw_m1 11 rfl) rfl
theorem q189 : (Jvm.Cond.fieldLinkNest "EndingTown$Worked" (23 : Nat) "EndingTown$Village" "things" "Ljava/util/List;" "EndingTown") ∈ lw_tbl := lw_at lw_m1 90 rfl
theorem q193 : (Jvm.Cond.fieldLinkNest "EndingTown$Worked" (43 : Nat) "EndingTown$Village" "rules" "Ljava/util/List;" "EndingTown") ∈ lw_tbl := lw_at lw_m1 94 rfl
theorem q285 : (Jvm.Cond.instantiable "EndingTown$Worked" (3 : Nat)) ∈ lw_all := lw_g (lw_at lw_m1 186 rfl) rfl
theorem q287 : (Jvm.Cond.instanceMethod ({ cls := "EndingTown$Worked", name := "<init>", desc := "(LEndingTown;)V" } : Jvm.MethodName)) ∈ lw_all := lw_g (lw_at lw_m1 188 rfl) rfl
theorem q288 : (Jvm.Cond.code ({ cls := "EndingTown$Worked", name := "<init>", desc := "(LEndingTown;)V" } : Jvm.MethodName) prog_16_method_1_code (2 : Nat) (Option.none : Option Jvm.ClassFile.FieldType)) ∈ lw_all := lw_g (lw_at lw_m1 189 rfl) rfl
theorem q289 : (Jvm.Cond.methodLinkNest "EndingTown$Worked" (9 : Nat) ({ cls := "EndingTown$How", name := "<init>", desc := "(LEndingTown;)V" } : Jvm.MethodName) "EndingTown") ∈ lw_tbl := lw_at lw_m1 190 rfl
theorem q290 : (Jvm.Cond.fieldLink "EndingTown$Worked" (15 : Nat) "EndingTown$Worked" "rounds" "[I") ∈ lw_all := lw_g (lw_at lw_m1 191 rfl) rfl
theorem q291 : (Jvm.Cond.fieldLink "EndingTown$Worked" (3 : Nat) "EndingTown$Worked" "this$0" "LEndingTown;") ∈ lw_all := lw_g (lw_at lw_m1 192 rfl) rfl
theorem q292 : (Jvm.Cond.laysFinal "EndingTown$Worked" "EndingTown$Worked" "rounds" "[I") ∈ lw_all := lw_g (lw_at lw_m1 193 rfl) rfl
theorem q293 : (Jvm.Cond.soleField "EndingTown$Worked" "rounds") ∈ lw_all := lw_g (lw_at lw_m1 194 rfl) rfl
theorem q294 : (Jvm.Cond.laysFinal "EndingTown$Worked" "EndingTown$Worked" "this$0" "LEndingTown;") ∈ lw_all := lw_g (lw_at lw_m1 195 rfl) rfl
theorem q295 : (Jvm.Cond.soleField "EndingTown$Worked" "this$0") ∈ lw_all := lw_g (lw_at lw_m1 196 rfl) rfl
theorem q296 : (Jvm.Cond.laysFinal "EndingTown$Worked" "EndingTown$How" "this$0" "LEndingTown;") ∈ lw_all := lw_g (lw_at lw_m1 197 rfl) rfl
theorem q297 : (Jvm.Cond.superclass "EndingTown$Worked" "EndingTown$How") ∈ lw_all := lw_g (lw_at lw_m1 198 rfl) rfl
theorem q344 : (Jvm.Cond.fieldLinkNest "EndingTown$Worked" (19 : Nat) "EndingTown" "village" "LEndingTown$Village;" "EndingTown") ∈ lw_tbl := lw_at lw_m2 5 rfl
theorem q350 : (Jvm.Cond.fieldLinkNest "EndingTown$Worked" (35 : Nat) "EndingTown" "hows" "[LEndingTown$How;" "EndingTown") ∈ lw_tbl := lw_at lw_m2 11 rfl
theorem q536 : (Jvm.Cond.selects "EndingTown$Worked" ({ cls := "EndingTown$How", name := "round", desc := "(LEndingTown$Day;IIIZ)I" } : Jvm.MethodName) ({ cls := "EndingTown$Worked", name := "round", desc := "(LEndingTown$Day;IIIZ)I" } : Jvm.MethodName)) ∈ lw_all := lw_g (lw_at lw_m2 197 rfl) rfl
theorem q537 : (Jvm.Cond.instanceMethod ({ cls := "EndingTown$Worked", name := "round", desc := "(LEndingTown$Day;IIIZ)I" } : Jvm.MethodName)) ∈ lw_all := lw_g (lw_at lw_m2 198 rfl) rfl
theorem q538 : (Jvm.Cond.code ({ cls := "EndingTown$Worked", name := "round", desc := "(LEndingTown$Day;IIIZ)I" } : Jvm.MethodName) prog_16_method_4_code (10 : Nat) (Option.some Jvm.ClassFile.FieldType.int)) ∈ lw_all := lw_g (lw_at lw_m2 199 rfl) rfl
theorem q539 : (Jvm.Cond.methodLink "EndingTown$Worked" (72 : Nat) ({ cls := "EndingTown$Worked", name := "tell", desc := "(LEndingTown$Day;II)V" } : Jvm.MethodName)) ∈ lw_all := lw_g (lw_at lw_m2 200 rfl) rfl
theorem q540 : (Jvm.Cond.privateMethod ({ cls := "EndingTown$Worked", name := "tell", desc := "(LEndingTown$Day;II)V" } : Jvm.MethodName)) ∈ lw_tbl := lw_at lw_m2 201 rfl
theorem q541 : (Jvm.Cond.instanceMethod ({ cls := "EndingTown$Worked", name := "tell", desc := "(LEndingTown$Day;II)V" } : Jvm.MethodName)) ∈ lw_all := lw_g (lw_at lw_m2 202 rfl) rfl
theorem q542 : (Jvm.Cond.code ({ cls := "EndingTown$Worked", name := "tell", desc := "(LEndingTown$Day;II)V" } : Jvm.MethodName) prog_16_method_2_code (9 : Nat) (Option.none : Option Jvm.ClassFile.FieldType)) ∈ lw_all := lw_g (lw_at lw_m2 203 rfl) rfl
theorem q543 : (Jvm.Cond.interfaceEntry "EndingTown$Worked" (29 : Nat)) ∈ lw_tbl := lw_at lw_m2 204 rfl
theorem q544 : (Jvm.Cond.methodLink "EndingTown$Worked" (29 : Nat) ({ cls := "java/util/List", name := "size", desc := "()I" } : Jvm.MethodName)) ∈ lw_all := lw_g (lw_at lw_m2 205 rfl) rfl
theorem q545 : (Jvm.Cond.methodLink "EndingTown$Worked" (39 : Nat) ({ cls := "EndingTown$How", name := "round", desc := "(LEndingTown$Day;IIIZ)I" } : Jvm.MethodName)) ∈ lw_all := lw_g (lw_at lw_m2 206 rfl) rfl
theorem q546 : (Jvm.Cond.interfaceEntry "EndingTown$Worked" (46 : Nat)) ∈ lw_tbl := lw_at lw_m2 207 rfl
theorem q547 : (Jvm.Cond.methodLink "EndingTown$Worked" (46 : Nat) ({ cls := "java/util/List", name := "get", desc := "(I)Ljava/lang/Object;" } : Jvm.MethodName)) ∈ lw_all := lw_g (lw_at lw_m2 208 rfl) rfl
theorem q548 : (Jvm.Cond.classLink "EndingTown$Worked" (50 : Nat) "EndingTown$Rule") ∈ lw_all := lw_g (lw_at lw_m2 209 rfl) rfl
theorem q549 : (Jvm.Cond.methodLink "EndingTown$Worked" (52 : Nat) ({ cls := "EndingTown$Worked", name := "ruleRound", desc := "(LEndingTown$Rule;)I" } : Jvm.MethodName)) ∈ lw_all := lw_g (lw_at lw_m2 210 rfl) rfl
theorem q550 : (Jvm.Cond.privateMethod ({ cls := "EndingTown$Worked", name := "ruleRound", desc := "(LEndingTown$Rule;)I" } : Jvm.MethodName)) ∈ lw_tbl := lw_at lw_m2 211 rfl
theorem q551 : (Jvm.Cond.instanceMethod ({ cls := "EndingTown$Worked", name := "ruleRound", desc := "(LEndingTown$Rule;)I" } : Jvm.MethodName)) ∈ lw_all := lw_g (lw_at lw_m2 212 rfl) rfl
theorem q552 : (Jvm.Cond.code ({ cls := "EndingTown$Worked", name := "ruleRound", desc := "(LEndingTown$Rule;)I" } : Jvm.MethodName) prog_16_method_3_code (4 : Nat) (Option.some Jvm.ClassFile.FieldType.int)) ∈ lw_all := lw_g (lw_at lw_m2 213 rfl) rfl
theorem q553 : (Jvm.Cond.methodLink "EndingTown$Worked" (66 : Nat) ({ cls := "java/lang/Math", name := "max", desc := "(II)I" } : Jvm.MethodName)) ∈ lw_all := lw_g (lw_at lw_m2 214 rfl) rfl
theorem q599 : (Jvm.Cond.selects "EndingTown$Worked" ({ cls := "java/lang/Object", name := "getClass", desc := "()Ljava/lang/Class;" } : Jvm.MethodName) ({ cls := "java/lang/Object", name := "getClass", desc := "()Ljava/lang/Class;" } : Jvm.MethodName)) ∈ lw_all := lw_g (lw_at lw_m3 20 rfl) rfl
theorem q980 : (Jvm.Cond.fieldLinkNest "EndingTown$Worked" (63 : Nat) "EndingTown$Rule" "from" "[I" "EndingTown") ∈ lw_tbl := lw_at lw_m4 161 rfl
theorem q982 : (Jvm.Cond.fieldLinkNest "EndingTown$Worked" (56 : Nat) "EndingTown$Rule" "thing" "I" "EndingTown") ∈ lw_tbl := lw_at lw_m4 163 rfl
theorem q985 : (Jvm.Cond.fieldLinkNest "EndingTown$Worked" (60 : Nat) "EndingTown$Rule" "many" "I" "EndingTown") ∈ lw_tbl := lw_at lw_m4 166 rfl
theorem q1260 : (Jvm.Cond.selects "EndingTown$Worked" ({ cls := "EndingTown$How", name := "eyes", desc := "(LEndingTown$Day;IIIZI)I" } : Jvm.MethodName) ({ cls := "EndingTown$Worked", name := "eyes", desc := "(LEndingTown$Day;IIIZI)I" } : Jvm.MethodName)) ∈ lw_all := lw_g (lw_at lw_m5 201 rfl) rfl
theorem q1261 : (Jvm.Cond.instanceMethod ({ cls := "EndingTown$Worked", name := "eyes", desc := "(LEndingTown$Day;IIIZI)I" } : Jvm.MethodName)) ∈ lw_all := lw_g (lw_at lw_m5 202 rfl) rfl
theorem q1262 : (Jvm.Cond.code ({ cls := "EndingTown$Worked", name := "eyes", desc := "(LEndingTown$Day;IIIZI)I" } : Jvm.MethodName) prog_16_method_5_code (11 : Nat) (Option.some Jvm.ClassFile.FieldType.int)) ∈ lw_all := lw_g (lw_at lw_m5 203 rfl) rfl
theorem q1263 : (Jvm.Cond.methodLink "EndingTown$Worked" (76 : Nat) ({ cls := "EndingTown$Day", name := "eyes", desc := "(IIIZI)I" } : Jvm.MethodName)) ∈ lw_all := lw_g (lw_at lw_m5 204 rfl) rfl
theorem q1932 : (Jvm.Cond.castable "EndingTown$Worked" "java/lang/Object") ∈ lw_tbl := lw_at lw_m8 153 rfl
theorem q1949 : (Jvm.Cond.castable "EndingTown$Worked" "EndingTown$How") ∈ lw_tbl := lw_at lw_m8 170 rfl
theorem in_X8 : ∀ w ∈ wsX80, w ∈ lw_all := lw_in wsX80 [296, 292, 294] (by decide +kernel) (by decide +kernel)
/-! EndingTown$Dreamt -/
set_option maxRecDepth 100000
def RX9 : String := "EndingTown$Dreamt"
def TX9 : u_T := fun k => match k with
  | 0 => ("EndingTown$How", "this$0", "LEndingTown;", true)
  | _ => ("EndingTown$Dreamt", "this$0", "LEndingTown;", true)
def tyX9 : Nat → FieldType := fun k => match k with
  | 0 => .object "EndingTown"
  | _ => .object "EndingTown"
abbrev wsX90 : List Cond := u_ws RX9 TX9 2
-- two fields of one name: no nmX9
theorem tyX9_ok : ∀ k, k < 2 → parseFieldDescriptor (TX9 k).2.2.1 = some (tyX9 k) := by decide +kernel
abbrev cX9_init : ByteArray := prog_4_method_1_code
def yX9_init : MethodName := ⟨RX9, "<init>", "(LEndingTown;)V"⟩
def dkwX9_init_0 : List UInt8 := [42, 43, 181, 0, 1, 42, 43, 183, 0, 7, 177]
abbrev dktX9_init_0 : List UInt8 := dkwX9_init_0 ++ []
theorem dksX9_init_0 : cX9_init.data.toList.drop 0 = dktX9_init_0 := by decide +kernel
theorem dX9_init_0 : decode cX9_init 0 = .ok (.aload_n 0, 1) := dk_42 (dk_at dksX9_init_0 0 rfl rfl)
theorem dX9_init_1 : decode cX9_init 1 = .ok (.aload_n 1, 1) := dk_43 (dk_at dksX9_init_0 1 rfl rfl)
theorem dX9_init_2 : decode cX9_init 2 = .ok (.putfield 1, 3) := dk_181 0 1 (dk_at dksX9_init_0 2 rfl rfl)
theorem dX9_init_5 : decode cX9_init 5 = .ok (.aload_n 0, 1) := dk_42 (dk_at dksX9_init_0 5 rfl rfl)
theorem dX9_init_6 : decode cX9_init 6 = .ok (.aload_n 1, 1) := dk_43 (dk_at dksX9_init_0 6 rfl rfl)
theorem dX9_init_7 : decode cX9_init 7 = .ok (.invokespecial 7, 3) := dk_183 0 7 (dk_at dksX9_init_0 7 rfl rfl)
theorem dX9_init_10 : decode cX9_init 10 = .ok (.return_, 1) := dk_177 (dk_at dksX9_init_0 10 rfl rfl)
abbrev cX9_round : ByteArray := prog_4_method_2_code
def yX9_round : MethodName := ⟨RX9, "round", "(LEndingTown$Day;IIIZ)I"⟩
theorem dX9_round_0 : decode cX9_round 0 = .ok (.iconst 1, 1) := by decide +kernel
theorem dX9_round_1 : decode cX9_round 1 = .ok (.ireturn, 1) := by decide +kernel
abbrev cX9_eyes : ByteArray := prog_4_method_3_code
def yX9_eyes : MethodName := ⟨RX9, "eyes", "(LEndingTown$Day;IIIZI)I"⟩
theorem dX9_eyes_0 : decode cX9_eyes 0 = .ok (.iconst 0, 1) := by decide +kernel
theorem dX9_eyes_1 : decode cX9_eyes 1 = .ok (.ireturn, 1) := by decide +kernel
theorem q111 : (Jvm.Cond.initialized "EndingTown$Dreamt") ∈ lw_all := lw_g (lw_at lw_m1 12 rfl) rfl
theorem q299 : (Jvm.Cond.instantiable "EndingTown$Dreamt" (2 : Nat)) ∈ lw_all := lw_g (lw_at lw_m1 200 rfl) rfl
theorem q301 : (Jvm.Cond.instanceMethod ({ cls := "EndingTown$Dreamt", name := "<init>", desc := "(LEndingTown;)V" } : Jvm.MethodName)) ∈ lw_all := lw_g (lw_at lw_m1 202 rfl) rfl
theorem q302 : (Jvm.Cond.code ({ cls := "EndingTown$Dreamt", name := "<init>", desc := "(LEndingTown;)V" } : Jvm.MethodName) prog_4_method_1_code (2 : Nat) (Option.none : Option Jvm.ClassFile.FieldType)) ∈ lw_all := lw_g (lw_at lw_m1 203 rfl) rfl
theorem q303 : (Jvm.Cond.methodLinkNest "EndingTown$Dreamt" (7 : Nat) ({ cls := "EndingTown$How", name := "<init>", desc := "(LEndingTown;)V" } : Jvm.MethodName) "EndingTown") ∈ lw_tbl := lw_at lw_m1 204 rfl
theorem q304 : (Jvm.Cond.fieldLink "EndingTown$Dreamt" (1 : Nat) "EndingTown$Dreamt" "this$0" "LEndingTown;") ∈ lw_all := lw_g (lw_at lw_m1 205 rfl) rfl
theorem q305 : (Jvm.Cond.laysFinal "EndingTown$Dreamt" "EndingTown$Dreamt" "this$0" "LEndingTown;") ∈ lw_all := lw_g (lw_at lw_m1 206 rfl) rfl
theorem q306 : (Jvm.Cond.soleField "EndingTown$Dreamt" "this$0") ∈ lw_all := lw_g (lw_at lw_m1 207 rfl) rfl
theorem q307 : (Jvm.Cond.laysFinal "EndingTown$Dreamt" "EndingTown$How" "this$0" "LEndingTown;") ∈ lw_all := lw_g (lw_at lw_m1 208 rfl) rfl
theorem q308 : (Jvm.Cond.superclass "EndingTown$Dreamt" "EndingTown$How") ∈ lw_all := lw_g (lw_at lw_m1 209 rfl) rfl
theorem q499 : (Jvm.Cond.selects "EndingTown$Dreamt" ({ cls := "EndingTown$How", name := "round", desc := "(LEndingTown$Day;IIIZ)I" } : Jvm.MethodName) ({ cls := "EndingTown$Dreamt", name := "round", desc := "(LEndingTown$Day;IIIZ)I" } : Jvm.MethodName)) ∈ lw_all := lw_g (lw_at lw_m2 160 rfl) rfl
theorem q500 : (Jvm.Cond.instanceMethod ({ cls := "EndingTown$Dreamt", name := "round", desc := "(LEndingTown$Day;IIIZ)I" } : Jvm.MethodName)) ∈ lw_all := lw_g (lw_at lw_m2 161 rfl) rfl
theorem q501 : (Jvm.Cond.code ({ cls := "EndingTown$Dreamt", name := "round", desc := "(LEndingTown$Day;IIIZ)I" } : Jvm.MethodName) prog_4_method_2_code (6 : Nat) (Option.some Jvm.ClassFile.FieldType.int)) ∈ lw_all := lw_g (lw_at lw_m2 162 rfl) rfl
theorem q589 : (Jvm.Cond.selects "EndingTown$Dreamt" ({ cls := "java/lang/Object", name := "getClass", desc := "()Ljava/lang/Class;" } : Jvm.MethodName) ({ cls := "java/lang/Object", name := "getClass", desc := "()Ljava/lang/Class;" } : Jvm.MethodName)) ∈ lw_all := lw_g (lw_at lw_m3 10 rfl) rfl
theorem q1250 : (Jvm.Cond.selects "EndingTown$Dreamt" ({ cls := "EndingTown$How", name := "eyes", desc := "(LEndingTown$Day;IIIZI)I" } : Jvm.MethodName) ({ cls := "EndingTown$Dreamt", name := "eyes", desc := "(LEndingTown$Day;IIIZI)I" } : Jvm.MethodName)) ∈ lw_all := lw_g (lw_at lw_m5 191 rfl) rfl
theorem q1251 : (Jvm.Cond.instanceMethod ({ cls := "EndingTown$Dreamt", name := "eyes", desc := "(LEndingTown$Day;IIIZI)I" } : Jvm.MethodName)) ∈ lw_all := lw_g (lw_at lw_m5 192 rfl) rfl
theorem q1252 : (Jvm.Cond.code ({ cls := "EndingTown$Dreamt", name := "eyes", desc := "(LEndingTown$Day;IIIZI)I" } : Jvm.MethodName) prog_4_method_3_code (7 : Nat) (Option.some Jvm.ClassFile.FieldType.int)) ∈ lw_all := lw_g (lw_at lw_m5 193 rfl) rfl
theorem q1933 : (Jvm.Cond.castable "EndingTown$Dreamt" "java/lang/Object") ∈ lw_tbl := lw_at lw_m8 154 rfl
theorem q1950 : (Jvm.Cond.castable "EndingTown$Dreamt" "EndingTown$How") ∈ lw_tbl := lw_at lw_m8 171 rfl
theorem in_X9 : ∀ w ∈ wsX90, w ∈ lw_all := lw_in wsX90 [307, 305] (by decide +kernel) (by decide +kernel)
theorem q1957 : (Jvm.Cond.castable "[B" "java/lang/Object") ∈ lw_tbl := lw_at lw_m8 178 rfl
set_option maxRecDepth 100000
theorem q1954 : (Jvm.Cond.castable "[I" "java/lang/Object") ∈ lw_tbl := lw_at lw_m8 175 rfl
set_option maxRecDepth 100000
theorem q1959 : (Jvm.Cond.castable "[J" "java/lang/Object") ∈ lw_tbl := lw_at lw_m8 180 rfl
set_option maxRecDepth 100000
theorem q1955 : (Jvm.Cond.castable "[LEndingTown$How;" "java/lang/Object") ∈ lw_tbl := lw_at lw_m8 176 rfl
set_option maxRecDepth 100000
theorem q1953 : (Jvm.Cond.castable "[LEndingTown$Letters;" "java/lang/Object") ∈ lw_tbl := lw_at lw_m8 174 rfl
set_option maxRecDepth 100000
theorem q1951 : (Jvm.Cond.sameMethod "[Ljava/lang/Object;" "java/lang/Object" "getClass" "()Ljava/lang/Class;") ∈ lw_all := lw_g (lw_at lw_m8 172 rfl) rfl
set_option maxRecDepth 100000
theorem q1952 : (Jvm.Cond.selects "[Ljava/lang/Object;" ({ cls := "java/lang/Object", name := "getClass", desc := "()Ljava/lang/Class;" } : Jvm.MethodName) ({ cls := "java/lang/Object", name := "getClass", desc := "()Ljava/lang/Class;" } : Jvm.MethodName)) ∈ lw_all := lw_g (lw_at lw_m8 173 rfl) rfl
theorem q1958 : (Jvm.Cond.castable "[Ljava/lang/Object;" "java/lang/Object") ∈ lw_tbl := lw_at lw_m8 179 rfl
theorem q1956 : (Jvm.Cond.castable "[Z" "java/lang/Object") ∈ lw_tbl := lw_at lw_m8 177 rfl
set_option maxRecDepth 100000
theorem q129 : (Jvm.Cond.initialized "java/lang/System") ∈ lw_all := lw_g (lw_at lw_m1 30 rfl) rfl
set_option maxRecDepth 100000
theorem q452 : (Jvm.Cond.static ({ cls := "java/lang/System", name := "arraycopy", desc := "(Ljava/lang/Object;ILjava/lang/Object;II)V" } : Jvm.MethodName)) ∈ lw_all := lw_g (lw_at lw_m2 113 rfl) rfl
theorem q453 : (Jvm.Cond.native ({ cls := "java/lang/System", name := "arraycopy", desc := "(Ljava/lang/Object;ILjava/lang/Object;II)V" } : Jvm.MethodName)) ∈ lw_all := lw_g (lw_at lw_m2 114 rfl) rfl
theorem q572 : (Jvm.Cond.interfaceMethod "java/util/Collection" "java/util/Collection" "toArray" "()[Ljava/lang/Object;") ∈ lw_tbl := lw_at lw_m2 233 rfl
set_option maxRecDepth 100000
theorem q573 : (Jvm.Cond.declares ({ cls := "java/util/Collection", name := "toArray", desc := "()[Ljava/lang/Object;" } : Jvm.MethodName)) ∈ lw_tbl := lw_at lw_m2 234 rfl
theorem q618 : (Jvm.Cond.interfaceMethod "java/util/Collection" "java/lang/Object" "getClass" "()Ljava/lang/Class;") ∈ lw_tbl := lw_at lw_m3 39 rfl
theorem q415 : (Jvm.Cond.interfaceMethod "java/util/List" "java/util/List" "isEmpty" "()Z") ∈ lw_tbl := lw_at lw_m2 76 rfl
set_option maxRecDepth 100000
theorem q416 : (Jvm.Cond.declares ({ cls := "java/util/List", name := "isEmpty", desc := "()Z" } : Jvm.MethodName)) ∈ lw_tbl := lw_at lw_m2 77 rfl
theorem q425 : (Jvm.Cond.interfaceMethod "java/util/List" "java/util/List" "size" "()I") ∈ lw_tbl := lw_at lw_m2 86 rfl
theorem q426 : (Jvm.Cond.declares ({ cls := "java/util/List", name := "size", desc := "()I" } : Jvm.MethodName)) ∈ lw_tbl := lw_at lw_m2 87 rfl
theorem q434 : (Jvm.Cond.interfaceMethod "java/util/List" "java/util/List" "remove" "(I)Ljava/lang/Object;") ∈ lw_tbl := lw_at lw_m2 95 rfl
theorem q435 : (Jvm.Cond.declares ({ cls := "java/util/List", name := "remove", desc := "(I)Ljava/lang/Object;" } : Jvm.MethodName)) ∈ lw_tbl := lw_at lw_m2 96 rfl
theorem q476 : (Jvm.Cond.interfaceMethod "java/util/List" "java/util/List" "get" "(I)Ljava/lang/Object;") ∈ lw_tbl := lw_at lw_m2 137 rfl
theorem q477 : (Jvm.Cond.declares ({ cls := "java/util/List", name := "get", desc := "(I)Ljava/lang/Object;" } : Jvm.MethodName)) ∈ lw_tbl := lw_at lw_m2 138 rfl
theorem q939 : (Jvm.Cond.interfaceMethod "java/util/List" "java/util/List" "add" "(Ljava/lang/Object;)Z") ∈ lw_tbl := lw_at lw_m4 120 rfl
theorem q940 : (Jvm.Cond.declares ({ cls := "java/util/List", name := "add", desc := "(Ljava/lang/Object;)Z" } : Jvm.MethodName)) ∈ lw_tbl := lw_at lw_m4 121 rfl
theorem q177 : (Jvm.Cond.arrayOver (Jvm.ClassFile.FieldType.object "EndingTown$Letters")) ∈ lw_tbl := lw_at lw_m1 78 rfl
set_option maxRecDepth 100000
theorem q234 : (Jvm.Cond.arrayClass Jvm.ClassFile.FieldType.int) ∈ lw_all := lw_g (lw_at lw_m1 135 rfl) rfl
theorem q238 : (Jvm.Cond.arrayOver (Jvm.ClassFile.FieldType.object "EndingTown$How")) ∈ lw_tbl := lw_at lw_m1 139 rfl
theorem q341 : (Jvm.Cond.arrayClass Jvm.ClassFile.FieldType.boolean) ∈ lw_all := lw_g (lw_at lw_m2 2 rfl) rfl
theorem q400 : (Jvm.Cond.arrayClass Jvm.ClassFile.FieldType.byte) ∈ lw_all := lw_g (lw_at lw_m2 61 rfl) rfl
theorem q610 : (Jvm.Cond.arrayOver (Jvm.ClassFile.FieldType.object "java/lang/Object")) ∈ lw_tbl := lw_at lw_m3 31 rfl
theorem q1922 : (Jvm.Cond.arrayClass Jvm.ClassFile.FieldType.long) ∈ lw_all := lw_g (lw_at lw_m8 143 rfl) rfl
