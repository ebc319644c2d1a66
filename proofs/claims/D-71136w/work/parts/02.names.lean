/-! DECODE ROWS BY BYTES: one lemma an opcode; a method's code is cut into short pieces once, and a row reads its own piece alone. -/
set_option maxRecDepth 100000
/-- the code has just these bytes from pc on -/
def DkAt (code : ByteArray) (pc : Nat) (bs : List UInt8) : Prop := ∀ (j : Nat) (b : UInt8), bs[j]? = some b → code.data.toList[pc + j]? = some b
/-- the piece W has the bytes bs from its place j on -/
def dkIn (W : List UInt8) (j : Nat) (bs : List UInt8) : Bool := decide ((W.drop j).take bs.length = bs)
theorem dk_seg {l W T : List UInt8} {o o2 : Nat} (h : l.drop o = W ++ T) (n : Nat) (hn : W.length = n) (ho : o + n = o2) : l.drop o2 = T := by
  subst ho
  rw [← List.drop_drop, h, List.drop_left' hn]
theorem dk_at {code : ByteArray} {W T bs : List UInt8} {o pc : Nat} (h : code.data.toList.drop o = W ++ T) (j : Nat) (hp : o + j = pc) (hw : dkIn W j bs = true) : DkAt code pc bs := by
  subst hp
  intro i b e
  have h1 := of_decide_eq_true hw
  have h2 : i < bs.length := (List.getElem?_eq_some_iff.mp e).1
  have h3 : W[j + i]? = some b := by
    rw [← h1, List.getElem?_take, if_pos h2, List.getElem?_drop] at e
    exact e
  have h4 : j + i < W.length := (List.getElem?_eq_some_iff.mp h3).1
  have h5 : (code.data.toList.drop o)[j + i]? = some b := by
    rw [h, List.getElem?_append_left h4]
    exact h3
  rw [List.getElem?_drop, ← Nat.add_assoc] at h5
  exact h5
theorem dk_u1 {A : ByteArray} {p : Nat} {b : UInt8} (h : A.data.toList[p]? = some b) : (Reader.u1 : Reader DecodeError Nat) A p = .ok (b.toNat, p + 1) := by
  obtain ⟨h1, h2⟩ := List.getElem?_eq_some_iff.mp h
  have h3 : p < A.size := by simpa using h1
  have h4 : A[p]'h3 = b := h2
  have e : (Reader.u1 : Reader DecodeError Nat) A p = (if h : p < A.size then .ok (A[p].toNat, p + 1) else .error (HasTruncated.truncated p)) := by
    show (do if h : p < A.size then do set (p + 1); Pure.pure A[p].toNat else MonadExcept.throw (HasTruncated.truncated p) : Reader DecodeError Nat) A p = _
    by_cases hi : p < A.size
    · rw [dif_pos hi, dif_pos hi]; rfl
    · rw [dif_neg hi, dif_neg hi]; rfl
  rw [e, dif_pos h3, h4]
theorem dk_bind {α β : Type} {r : Reader DecodeError α} {f : α → Reader DecodeError β} {A : ByteArray} {p s : Nat} {a : α} (h : r A p = .ok (a, s)) : (r >>= f) A p = f a A s := by
  show (do let (a, s) ← r A p; f a A s : Except DecodeError (β × Nat)) = _
  rw [h]
  rfl
theorem dk_map {α β : Type} {r : Reader DecodeError α} {g : α → β} {A : ByteArray} {p s : Nat} {a : α} (h : r A p = .ok (a, s)) : (g <$> r) A p = .ok (g a, s) := by
  show (do let (a, s) ← r A p; .ok (g a, s) : Except DecodeError (β × Nat)) = _
  rw [h]
  rfl
theorem dk_u2 {A : ByteArray} {p : Nat} {a b : UInt8} (h : A.data.toList[p]? = some a) (h2 : A.data.toList[p + 1]? = some b) : (Reader.u2 : Reader DecodeError Nat) A p = .ok (a.toNat * 256 + b.toNat, p + 2) := by
  show (Reader.u1 >>= fun hi => Reader.u1 >>= fun lo => Pure.pure (hi * 256 + lo) : Reader DecodeError Nat) A p = _
  rw [dk_bind (dk_u1 h), dk_bind (dk_u1 h2)]
  rfl
theorem dk_of {code : ByteArray} {pc n : Nat} {i : Instr} (h : Decoder.instr pc code pc = .ok (i, pc + n)) : decode code pc = .ok (i, n) := by
  have e : decode code pc = (match Decoder.instr pc code pc with | .error x => .error x | .ok (j, s) => .ok (j, s - pc)) := by
    show (do let (j, s) ← Decoder.instr pc code pc; Pure.pure (j, s - pc) : Except DecodeError (Instr × Nat)) = _
    cases Decoder.instr pc code pc <;> rfl
  rw [e, h]
  show Except.ok (i, pc + n - pc) = _
  rw [Nat.add_sub_cancel_left]
theorem dk_1 {code : ByteArray} {pc : Nat} (h : DkAt code pc [1]) : decode code pc = .ok (.aconst_null, 1) := dk_of ((dk_bind (dk_u1 (h 0 _ rfl))).trans rfl)
theorem dk_2 {code : ByteArray} {pc : Nat} (h : DkAt code pc [2]) : decode code pc = .ok (.iconst (-1), 1) := dk_of ((dk_bind (dk_u1 (h 0 _ rfl))).trans rfl)
theorem dk_3 {code : ByteArray} {pc : Nat} (h : DkAt code pc [3]) : decode code pc = .ok (.iconst 0, 1) := dk_of ((dk_bind (dk_u1 (h 0 _ rfl))).trans rfl)
theorem dk_4 {code : ByteArray} {pc : Nat} (h : DkAt code pc [4]) : decode code pc = .ok (.iconst 1, 1) := dk_of ((dk_bind (dk_u1 (h 0 _ rfl))).trans rfl)
theorem dk_5 {code : ByteArray} {pc : Nat} (h : DkAt code pc [5]) : decode code pc = .ok (.iconst 2, 1) := dk_of ((dk_bind (dk_u1 (h 0 _ rfl))).trans rfl)
theorem dk_6 {code : ByteArray} {pc : Nat} (h : DkAt code pc [6]) : decode code pc = .ok (.iconst 3, 1) := dk_of ((dk_bind (dk_u1 (h 0 _ rfl))).trans rfl)
theorem dk_7 {code : ByteArray} {pc : Nat} (h : DkAt code pc [7]) : decode code pc = .ok (.iconst 4, 1) := dk_of ((dk_bind (dk_u1 (h 0 _ rfl))).trans rfl)
theorem dk_8 {code : ByteArray} {pc : Nat} (h : DkAt code pc [8]) : decode code pc = .ok (.iconst 5, 1) := dk_of ((dk_bind (dk_u1 (h 0 _ rfl))).trans rfl)
theorem dk_9 {code : ByteArray} {pc : Nat} (h : DkAt code pc [9]) : decode code pc = .ok (.lconst 0, 1) := dk_of ((dk_bind (dk_u1 (h 0 _ rfl))).trans rfl)
theorem dk_10 {code : ByteArray} {pc : Nat} (h : DkAt code pc [10]) : decode code pc = .ok (.lconst 1, 1) := dk_of ((dk_bind (dk_u1 (h 0 _ rfl))).trans rfl)
theorem dk_16 {code : ByteArray} {pc : Nat} (a : UInt8) (h : DkAt code pc [16, a]) : decode code pc = .ok (.bipush (Reader.signed 8 a.toNat), 2) := dk_of ((dk_bind (dk_u1 (h 0 _ rfl))).trans ((dk_bind (dk_map (dk_u1 (h 1 _ rfl)))).trans rfl))
theorem dk_17 {code : ByteArray} {pc : Nat} (a b : UInt8) (h : DkAt code pc [17, a, b]) : decode code pc = .ok (.sipush (Reader.signed 16 (a.toNat * 256 + b.toNat)), 3) := dk_of ((dk_bind (dk_u1 (h 0 _ rfl))).trans ((dk_bind (dk_map (dk_u2 (h 1 _ rfl) (h 2 _ rfl)))).trans rfl))
theorem dk_18 {code : ByteArray} {pc : Nat} (a : UInt8) (h : DkAt code pc [18, a]) : decode code pc = .ok (.ldc a.toNat, 2) := dk_of ((dk_bind (dk_u1 (h 0 _ rfl))).trans ((dk_bind (dk_u1 (h 1 _ rfl))).trans rfl))
theorem dk_19 {code : ByteArray} {pc : Nat} (a b : UInt8) (h : DkAt code pc [19, a, b]) : decode code pc = .ok (.ldc_w (a.toNat * 256 + b.toNat), 3) := dk_of ((dk_bind (dk_u1 (h 0 _ rfl))).trans ((dk_bind (dk_u2 (h 1 _ rfl) (h 2 _ rfl))).trans rfl))
theorem dk_20 {code : ByteArray} {pc : Nat} (a b : UInt8) (h : DkAt code pc [20, a, b]) : decode code pc = .ok (.ldc2_w (a.toNat * 256 + b.toNat), 3) := dk_of ((dk_bind (dk_u1 (h 0 _ rfl))).trans ((dk_bind (dk_u2 (h 1 _ rfl) (h 2 _ rfl))).trans rfl))
theorem dk_21 {code : ByteArray} {pc : Nat} (a : UInt8) (h : DkAt code pc [21, a]) : decode code pc = .ok (.iload a.toNat, 2) := dk_of ((dk_bind (dk_u1 (h 0 _ rfl))).trans ((dk_bind (dk_u1 (h 1 _ rfl))).trans rfl))
theorem dk_22 {code : ByteArray} {pc : Nat} (a : UInt8) (h : DkAt code pc [22, a]) : decode code pc = .ok (.lload a.toNat, 2) := dk_of ((dk_bind (dk_u1 (h 0 _ rfl))).trans ((dk_bind (dk_u1 (h 1 _ rfl))).trans rfl))
theorem dk_25 {code : ByteArray} {pc : Nat} (a : UInt8) (h : DkAt code pc [25, a]) : decode code pc = .ok (.aload a.toNat, 2) := dk_of ((dk_bind (dk_u1 (h 0 _ rfl))).trans ((dk_bind (dk_u1 (h 1 _ rfl))).trans rfl))
theorem dk_26 {code : ByteArray} {pc : Nat} (h : DkAt code pc [26]) : decode code pc = .ok (.iload_n 0, 1) := dk_of ((dk_bind (dk_u1 (h 0 _ rfl))).trans rfl)
theorem dk_27 {code : ByteArray} {pc : Nat} (h : DkAt code pc [27]) : decode code pc = .ok (.iload_n 1, 1) := dk_of ((dk_bind (dk_u1 (h 0 _ rfl))).trans rfl)
theorem dk_28 {code : ByteArray} {pc : Nat} (h : DkAt code pc [28]) : decode code pc = .ok (.iload_n 2, 1) := dk_of ((dk_bind (dk_u1 (h 0 _ rfl))).trans rfl)
theorem dk_29 {code : ByteArray} {pc : Nat} (h : DkAt code pc [29]) : decode code pc = .ok (.iload_n 3, 1) := dk_of ((dk_bind (dk_u1 (h 0 _ rfl))).trans rfl)
theorem dk_30 {code : ByteArray} {pc : Nat} (h : DkAt code pc [30]) : decode code pc = .ok (.lload_n 0, 1) := dk_of ((dk_bind (dk_u1 (h 0 _ rfl))).trans rfl)
theorem dk_31 {code : ByteArray} {pc : Nat} (h : DkAt code pc [31]) : decode code pc = .ok (.lload_n 1, 1) := dk_of ((dk_bind (dk_u1 (h 0 _ rfl))).trans rfl)
theorem dk_32 {code : ByteArray} {pc : Nat} (h : DkAt code pc [32]) : decode code pc = .ok (.lload_n 2, 1) := dk_of ((dk_bind (dk_u1 (h 0 _ rfl))).trans rfl)
theorem dk_33 {code : ByteArray} {pc : Nat} (h : DkAt code pc [33]) : decode code pc = .ok (.lload_n 3, 1) := dk_of ((dk_bind (dk_u1 (h 0 _ rfl))).trans rfl)
theorem dk_42 {code : ByteArray} {pc : Nat} (h : DkAt code pc [42]) : decode code pc = .ok (.aload_n 0, 1) := dk_of ((dk_bind (dk_u1 (h 0 _ rfl))).trans rfl)
theorem dk_43 {code : ByteArray} {pc : Nat} (h : DkAt code pc [43]) : decode code pc = .ok (.aload_n 1, 1) := dk_of ((dk_bind (dk_u1 (h 0 _ rfl))).trans rfl)
theorem dk_44 {code : ByteArray} {pc : Nat} (h : DkAt code pc [44]) : decode code pc = .ok (.aload_n 2, 1) := dk_of ((dk_bind (dk_u1 (h 0 _ rfl))).trans rfl)
theorem dk_45 {code : ByteArray} {pc : Nat} (h : DkAt code pc [45]) : decode code pc = .ok (.aload_n 3, 1) := dk_of ((dk_bind (dk_u1 (h 0 _ rfl))).trans rfl)
theorem dk_46 {code : ByteArray} {pc : Nat} (h : DkAt code pc [46]) : decode code pc = .ok (.iaload, 1) := dk_of ((dk_bind (dk_u1 (h 0 _ rfl))).trans rfl)
theorem dk_47 {code : ByteArray} {pc : Nat} (h : DkAt code pc [47]) : decode code pc = .ok (.laload, 1) := dk_of ((dk_bind (dk_u1 (h 0 _ rfl))).trans rfl)
theorem dk_50 {code : ByteArray} {pc : Nat} (h : DkAt code pc [50]) : decode code pc = .ok (.aaload, 1) := dk_of ((dk_bind (dk_u1 (h 0 _ rfl))).trans rfl)
theorem dk_51 {code : ByteArray} {pc : Nat} (h : DkAt code pc [51]) : decode code pc = .ok (.baload, 1) := dk_of ((dk_bind (dk_u1 (h 0 _ rfl))).trans rfl)
theorem dk_52 {code : ByteArray} {pc : Nat} (h : DkAt code pc [52]) : decode code pc = .ok (.caload, 1) := dk_of ((dk_bind (dk_u1 (h 0 _ rfl))).trans rfl)
theorem dk_53 {code : ByteArray} {pc : Nat} (h : DkAt code pc [53]) : decode code pc = .ok (.saload, 1) := dk_of ((dk_bind (dk_u1 (h 0 _ rfl))).trans rfl)
theorem dk_54 {code : ByteArray} {pc : Nat} (a : UInt8) (h : DkAt code pc [54, a]) : decode code pc = .ok (.istore a.toNat, 2) := dk_of ((dk_bind (dk_u1 (h 0 _ rfl))).trans ((dk_bind (dk_u1 (h 1 _ rfl))).trans rfl))
theorem dk_58 {code : ByteArray} {pc : Nat} (a : UInt8) (h : DkAt code pc [58, a]) : decode code pc = .ok (.astore a.toNat, 2) := dk_of ((dk_bind (dk_u1 (h 0 _ rfl))).trans ((dk_bind (dk_u1 (h 1 _ rfl))).trans rfl))
theorem dk_59 {code : ByteArray} {pc : Nat} (h : DkAt code pc [59]) : decode code pc = .ok (.istore_n 0, 1) := dk_of ((dk_bind (dk_u1 (h 0 _ rfl))).trans rfl)
theorem dk_60 {code : ByteArray} {pc : Nat} (h : DkAt code pc [60]) : decode code pc = .ok (.istore_n 1, 1) := dk_of ((dk_bind (dk_u1 (h 0 _ rfl))).trans rfl)
theorem dk_61 {code : ByteArray} {pc : Nat} (h : DkAt code pc [61]) : decode code pc = .ok (.istore_n 2, 1) := dk_of ((dk_bind (dk_u1 (h 0 _ rfl))).trans rfl)
theorem dk_62 {code : ByteArray} {pc : Nat} (h : DkAt code pc [62]) : decode code pc = .ok (.istore_n 3, 1) := dk_of ((dk_bind (dk_u1 (h 0 _ rfl))).trans rfl)
theorem dk_76 {code : ByteArray} {pc : Nat} (h : DkAt code pc [76]) : decode code pc = .ok (.astore_n 1, 1) := dk_of ((dk_bind (dk_u1 (h 0 _ rfl))).trans rfl)
theorem dk_77 {code : ByteArray} {pc : Nat} (h : DkAt code pc [77]) : decode code pc = .ok (.astore_n 2, 1) := dk_of ((dk_bind (dk_u1 (h 0 _ rfl))).trans rfl)
theorem dk_78 {code : ByteArray} {pc : Nat} (h : DkAt code pc [78]) : decode code pc = .ok (.astore_n 3, 1) := dk_of ((dk_bind (dk_u1 (h 0 _ rfl))).trans rfl)
theorem dk_79 {code : ByteArray} {pc : Nat} (h : DkAt code pc [79]) : decode code pc = .ok (.iastore, 1) := dk_of ((dk_bind (dk_u1 (h 0 _ rfl))).trans rfl)
theorem dk_80 {code : ByteArray} {pc : Nat} (h : DkAt code pc [80]) : decode code pc = .ok (.lastore, 1) := dk_of ((dk_bind (dk_u1 (h 0 _ rfl))).trans rfl)
theorem dk_83 {code : ByteArray} {pc : Nat} (h : DkAt code pc [83]) : decode code pc = .ok (.aastore, 1) := dk_of ((dk_bind (dk_u1 (h 0 _ rfl))).trans rfl)
theorem dk_84 {code : ByteArray} {pc : Nat} (h : DkAt code pc [84]) : decode code pc = .ok (.bastore, 1) := dk_of ((dk_bind (dk_u1 (h 0 _ rfl))).trans rfl)
theorem dk_85 {code : ByteArray} {pc : Nat} (h : DkAt code pc [85]) : decode code pc = .ok (.castore, 1) := dk_of ((dk_bind (dk_u1 (h 0 _ rfl))).trans rfl)
theorem dk_86 {code : ByteArray} {pc : Nat} (h : DkAt code pc [86]) : decode code pc = .ok (.sastore, 1) := dk_of ((dk_bind (dk_u1 (h 0 _ rfl))).trans rfl)
theorem dk_87 {code : ByteArray} {pc : Nat} (h : DkAt code pc [87]) : decode code pc = .ok (.pop, 1) := dk_of ((dk_bind (dk_u1 (h 0 _ rfl))).trans rfl)
theorem dk_89 {code : ByteArray} {pc : Nat} (h : DkAt code pc [89]) : decode code pc = .ok (.dup, 1) := dk_of ((dk_bind (dk_u1 (h 0 _ rfl))).trans rfl)
theorem dk_92 {code : ByteArray} {pc : Nat} (h : DkAt code pc [92]) : decode code pc = .ok (.dup2, 1) := dk_of ((dk_bind (dk_u1 (h 0 _ rfl))).trans rfl)
theorem dk_96 {code : ByteArray} {pc : Nat} (h : DkAt code pc [96]) : decode code pc = .ok (.iadd, 1) := dk_of ((dk_bind (dk_u1 (h 0 _ rfl))).trans rfl)
theorem dk_97 {code : ByteArray} {pc : Nat} (h : DkAt code pc [97]) : decode code pc = .ok (.ladd, 1) := dk_of ((dk_bind (dk_u1 (h 0 _ rfl))).trans rfl)
theorem dk_100 {code : ByteArray} {pc : Nat} (h : DkAt code pc [100]) : decode code pc = .ok (.isub, 1) := dk_of ((dk_bind (dk_u1 (h 0 _ rfl))).trans rfl)
theorem dk_104 {code : ByteArray} {pc : Nat} (h : DkAt code pc [104]) : decode code pc = .ok (.imul, 1) := dk_of ((dk_bind (dk_u1 (h 0 _ rfl))).trans rfl)
theorem dk_105 {code : ByteArray} {pc : Nat} (h : DkAt code pc [105]) : decode code pc = .ok (.lmul, 1) := dk_of ((dk_bind (dk_u1 (h 0 _ rfl))).trans rfl)
theorem dk_108 {code : ByteArray} {pc : Nat} (h : DkAt code pc [108]) : decode code pc = .ok (.idiv, 1) := dk_of ((dk_bind (dk_u1 (h 0 _ rfl))).trans rfl)
theorem dk_112 {code : ByteArray} {pc : Nat} (h : DkAt code pc [112]) : decode code pc = .ok (.irem, 1) := dk_of ((dk_bind (dk_u1 (h 0 _ rfl))).trans rfl)
theorem dk_116 {code : ByteArray} {pc : Nat} (h : DkAt code pc [116]) : decode code pc = .ok (.ineg, 1) := dk_of ((dk_bind (dk_u1 (h 0 _ rfl))).trans rfl)
theorem dk_120 {code : ByteArray} {pc : Nat} (h : DkAt code pc [120]) : decode code pc = .ok (.ishl, 1) := dk_of ((dk_bind (dk_u1 (h 0 _ rfl))).trans rfl)
theorem dk_121 {code : ByteArray} {pc : Nat} (h : DkAt code pc [121]) : decode code pc = .ok (.lshl, 1) := dk_of ((dk_bind (dk_u1 (h 0 _ rfl))).trans rfl)
theorem dk_122 {code : ByteArray} {pc : Nat} (h : DkAt code pc [122]) : decode code pc = .ok (.ishr, 1) := dk_of ((dk_bind (dk_u1 (h 0 _ rfl))).trans rfl)
theorem dk_124 {code : ByteArray} {pc : Nat} (h : DkAt code pc [124]) : decode code pc = .ok (.iushr, 1) := dk_of ((dk_bind (dk_u1 (h 0 _ rfl))).trans rfl)
theorem dk_126 {code : ByteArray} {pc : Nat} (h : DkAt code pc [126]) : decode code pc = .ok (.iand, 1) := dk_of ((dk_bind (dk_u1 (h 0 _ rfl))).trans rfl)
theorem dk_127 {code : ByteArray} {pc : Nat} (h : DkAt code pc [127]) : decode code pc = .ok (.land, 1) := dk_of ((dk_bind (dk_u1 (h 0 _ rfl))).trans rfl)
theorem dk_128 {code : ByteArray} {pc : Nat} (h : DkAt code pc [128]) : decode code pc = .ok (.ior, 1) := dk_of ((dk_bind (dk_u1 (h 0 _ rfl))).trans rfl)
theorem dk_129 {code : ByteArray} {pc : Nat} (h : DkAt code pc [129]) : decode code pc = .ok (.lor, 1) := dk_of ((dk_bind (dk_u1 (h 0 _ rfl))).trans rfl)
theorem dk_130 {code : ByteArray} {pc : Nat} (h : DkAt code pc [130]) : decode code pc = .ok (.ixor, 1) := dk_of ((dk_bind (dk_u1 (h 0 _ rfl))).trans rfl)
theorem dk_132 {code : ByteArray} {pc : Nat} (a b : UInt8) (h : DkAt code pc [132, a, b]) : decode code pc = .ok (.iinc a.toNat (Reader.signed 8 b.toNat), 3) := dk_of ((dk_bind (dk_u1 (h 0 _ rfl))).trans ((dk_bind (dk_u1 (h 1 _ rfl))).trans ((dk_bind (dk_map (dk_u1 (h 2 _ rfl)))).trans rfl)))
theorem dk_133 {code : ByteArray} {pc : Nat} (h : DkAt code pc [133]) : decode code pc = .ok (.i2l, 1) := dk_of ((dk_bind (dk_u1 (h 0 _ rfl))).trans rfl)
theorem dk_136 {code : ByteArray} {pc : Nat} (h : DkAt code pc [136]) : decode code pc = .ok (.l2i, 1) := dk_of ((dk_bind (dk_u1 (h 0 _ rfl))).trans rfl)
theorem dk_145 {code : ByteArray} {pc : Nat} (h : DkAt code pc [145]) : decode code pc = .ok (.i2b, 1) := dk_of ((dk_bind (dk_u1 (h 0 _ rfl))).trans rfl)
theorem dk_146 {code : ByteArray} {pc : Nat} (h : DkAt code pc [146]) : decode code pc = .ok (.i2c, 1) := dk_of ((dk_bind (dk_u1 (h 0 _ rfl))).trans rfl)
theorem dk_147 {code : ByteArray} {pc : Nat} (h : DkAt code pc [147]) : decode code pc = .ok (.i2s, 1) := dk_of ((dk_bind (dk_u1 (h 0 _ rfl))).trans rfl)
theorem dk_148 {code : ByteArray} {pc : Nat} (h : DkAt code pc [148]) : decode code pc = .ok (.lcmp, 1) := dk_of ((dk_bind (dk_u1 (h 0 _ rfl))).trans rfl)
theorem dk_153 {code : ByteArray} {pc : Nat} (a b : UInt8) (h : DkAt code pc [153, a, b]) : decode code pc = .ok (.ifCond .eq (Reader.signed 16 (a.toNat * 256 + b.toNat)), 3) := dk_of ((dk_bind (dk_u1 (h 0 _ rfl))).trans ((dk_bind (dk_map (dk_u2 (h 1 _ rfl) (h 2 _ rfl)))).trans rfl))
theorem dk_154 {code : ByteArray} {pc : Nat} (a b : UInt8) (h : DkAt code pc [154, a, b]) : decode code pc = .ok (.ifCond .ne (Reader.signed 16 (a.toNat * 256 + b.toNat)), 3) := dk_of ((dk_bind (dk_u1 (h 0 _ rfl))).trans ((dk_bind (dk_map (dk_u2 (h 1 _ rfl) (h 2 _ rfl)))).trans rfl))
theorem dk_155 {code : ByteArray} {pc : Nat} (a b : UInt8) (h : DkAt code pc [155, a, b]) : decode code pc = .ok (.ifCond .lt (Reader.signed 16 (a.toNat * 256 + b.toNat)), 3) := dk_of ((dk_bind (dk_u1 (h 0 _ rfl))).trans ((dk_bind (dk_map (dk_u2 (h 1 _ rfl) (h 2 _ rfl)))).trans rfl))
theorem dk_156 {code : ByteArray} {pc : Nat} (a b : UInt8) (h : DkAt code pc [156, a, b]) : decode code pc = .ok (.ifCond .ge (Reader.signed 16 (a.toNat * 256 + b.toNat)), 3) := dk_of ((dk_bind (dk_u1 (h 0 _ rfl))).trans ((dk_bind (dk_map (dk_u2 (h 1 _ rfl) (h 2 _ rfl)))).trans rfl))
theorem dk_157 {code : ByteArray} {pc : Nat} (a b : UInt8) (h : DkAt code pc [157, a, b]) : decode code pc = .ok (.ifCond .gt (Reader.signed 16 (a.toNat * 256 + b.toNat)), 3) := dk_of ((dk_bind (dk_u1 (h 0 _ rfl))).trans ((dk_bind (dk_map (dk_u2 (h 1 _ rfl) (h 2 _ rfl)))).trans rfl))
theorem dk_158 {code : ByteArray} {pc : Nat} (a b : UInt8) (h : DkAt code pc [158, a, b]) : decode code pc = .ok (.ifCond .le (Reader.signed 16 (a.toNat * 256 + b.toNat)), 3) := dk_of ((dk_bind (dk_u1 (h 0 _ rfl))).trans ((dk_bind (dk_map (dk_u2 (h 1 _ rfl) (h 2 _ rfl)))).trans rfl))
theorem dk_159 {code : ByteArray} {pc : Nat} (a b : UInt8) (h : DkAt code pc [159, a, b]) : decode code pc = .ok (.if_icmp .eq (Reader.signed 16 (a.toNat * 256 + b.toNat)), 3) := dk_of ((dk_bind (dk_u1 (h 0 _ rfl))).trans ((dk_bind (dk_map (dk_u2 (h 1 _ rfl) (h 2 _ rfl)))).trans rfl))
theorem dk_160 {code : ByteArray} {pc : Nat} (a b : UInt8) (h : DkAt code pc [160, a, b]) : decode code pc = .ok (.if_icmp .ne (Reader.signed 16 (a.toNat * 256 + b.toNat)), 3) := dk_of ((dk_bind (dk_u1 (h 0 _ rfl))).trans ((dk_bind (dk_map (dk_u2 (h 1 _ rfl) (h 2 _ rfl)))).trans rfl))
theorem dk_161 {code : ByteArray} {pc : Nat} (a b : UInt8) (h : DkAt code pc [161, a, b]) : decode code pc = .ok (.if_icmp .lt (Reader.signed 16 (a.toNat * 256 + b.toNat)), 3) := dk_of ((dk_bind (dk_u1 (h 0 _ rfl))).trans ((dk_bind (dk_map (dk_u2 (h 1 _ rfl) (h 2 _ rfl)))).trans rfl))
theorem dk_162 {code : ByteArray} {pc : Nat} (a b : UInt8) (h : DkAt code pc [162, a, b]) : decode code pc = .ok (.if_icmp .ge (Reader.signed 16 (a.toNat * 256 + b.toNat)), 3) := dk_of ((dk_bind (dk_u1 (h 0 _ rfl))).trans ((dk_bind (dk_map (dk_u2 (h 1 _ rfl) (h 2 _ rfl)))).trans rfl))
theorem dk_163 {code : ByteArray} {pc : Nat} (a b : UInt8) (h : DkAt code pc [163, a, b]) : decode code pc = .ok (.if_icmp .gt (Reader.signed 16 (a.toNat * 256 + b.toNat)), 3) := dk_of ((dk_bind (dk_u1 (h 0 _ rfl))).trans ((dk_bind (dk_map (dk_u2 (h 1 _ rfl) (h 2 _ rfl)))).trans rfl))
theorem dk_164 {code : ByteArray} {pc : Nat} (a b : UInt8) (h : DkAt code pc [164, a, b]) : decode code pc = .ok (.if_icmp .le (Reader.signed 16 (a.toNat * 256 + b.toNat)), 3) := dk_of ((dk_bind (dk_u1 (h 0 _ rfl))).trans ((dk_bind (dk_map (dk_u2 (h 1 _ rfl) (h 2 _ rfl)))).trans rfl))
theorem dk_167 {code : ByteArray} {pc : Nat} (a b : UInt8) (h : DkAt code pc [167, a, b]) : decode code pc = .ok (.goto (Reader.signed 16 (a.toNat * 256 + b.toNat)), 3) := dk_of ((dk_bind (dk_u1 (h 0 _ rfl))).trans ((dk_bind (dk_map (dk_u2 (h 1 _ rfl) (h 2 _ rfl)))).trans rfl))
theorem dk_172 {code : ByteArray} {pc : Nat} (h : DkAt code pc [172]) : decode code pc = .ok (.ireturn, 1) := dk_of ((dk_bind (dk_u1 (h 0 _ rfl))).trans rfl)
theorem dk_173 {code : ByteArray} {pc : Nat} (h : DkAt code pc [173]) : decode code pc = .ok (.lreturn, 1) := dk_of ((dk_bind (dk_u1 (h 0 _ rfl))).trans rfl)
theorem dk_176 {code : ByteArray} {pc : Nat} (h : DkAt code pc [176]) : decode code pc = .ok (.areturn, 1) := dk_of ((dk_bind (dk_u1 (h 0 _ rfl))).trans rfl)
theorem dk_177 {code : ByteArray} {pc : Nat} (h : DkAt code pc [177]) : decode code pc = .ok (.return_, 1) := dk_of ((dk_bind (dk_u1 (h 0 _ rfl))).trans rfl)
theorem dk_178 {code : ByteArray} {pc : Nat} (a b : UInt8) (h : DkAt code pc [178, a, b]) : decode code pc = .ok (.getstatic (a.toNat * 256 + b.toNat), 3) := dk_of ((dk_bind (dk_u1 (h 0 _ rfl))).trans ((dk_bind (dk_u2 (h 1 _ rfl) (h 2 _ rfl))).trans rfl))
theorem dk_180 {code : ByteArray} {pc : Nat} (a b : UInt8) (h : DkAt code pc [180, a, b]) : decode code pc = .ok (.getfield (a.toNat * 256 + b.toNat), 3) := dk_of ((dk_bind (dk_u1 (h 0 _ rfl))).trans ((dk_bind (dk_u2 (h 1 _ rfl) (h 2 _ rfl))).trans rfl))
theorem dk_181 {code : ByteArray} {pc : Nat} (a b : UInt8) (h : DkAt code pc [181, a, b]) : decode code pc = .ok (.putfield (a.toNat * 256 + b.toNat), 3) := dk_of ((dk_bind (dk_u1 (h 0 _ rfl))).trans ((dk_bind (dk_u2 (h 1 _ rfl) (h 2 _ rfl))).trans rfl))
theorem dk_182 {code : ByteArray} {pc : Nat} (a b : UInt8) (h : DkAt code pc [182, a, b]) : decode code pc = .ok (.invokevirtual (a.toNat * 256 + b.toNat), 3) := dk_of ((dk_bind (dk_u1 (h 0 _ rfl))).trans ((dk_bind (dk_u2 (h 1 _ rfl) (h 2 _ rfl))).trans rfl))
theorem dk_183 {code : ByteArray} {pc : Nat} (a b : UInt8) (h : DkAt code pc [183, a, b]) : decode code pc = .ok (.invokespecial (a.toNat * 256 + b.toNat), 3) := dk_of ((dk_bind (dk_u1 (h 0 _ rfl))).trans ((dk_bind (dk_u2 (h 1 _ rfl) (h 2 _ rfl))).trans rfl))
theorem dk_184 {code : ByteArray} {pc : Nat} (a b : UInt8) (h : DkAt code pc [184, a, b]) : decode code pc = .ok (.invokestatic (a.toNat * 256 + b.toNat), 3) := dk_of ((dk_bind (dk_u1 (h 0 _ rfl))).trans ((dk_bind (dk_u2 (h 1 _ rfl) (h 2 _ rfl))).trans rfl))
theorem dk_187 {code : ByteArray} {pc : Nat} (a b : UInt8) (h : DkAt code pc [187, a, b]) : decode code pc = .ok (.new (a.toNat * 256 + b.toNat), 3) := dk_of ((dk_bind (dk_u1 (h 0 _ rfl))).trans ((dk_bind (dk_u2 (h 1 _ rfl) (h 2 _ rfl))).trans rfl))
theorem dk_188_5 {code : ByteArray} {pc : Nat} (h : DkAt code pc [188, 5]) : decode code pc = .ok (.newarray .char, 2) := dk_of ((dk_bind (dk_u1 (h 0 _ rfl))).trans ((dk_bind (dk_u1 (h 1 _ rfl))).trans rfl))
theorem dk_188_8 {code : ByteArray} {pc : Nat} (h : DkAt code pc [188, 8]) : decode code pc = .ok (.newarray .byte, 2) := dk_of ((dk_bind (dk_u1 (h 0 _ rfl))).trans ((dk_bind (dk_u1 (h 1 _ rfl))).trans rfl))
theorem dk_188_9 {code : ByteArray} {pc : Nat} (h : DkAt code pc [188, 9]) : decode code pc = .ok (.newarray .short, 2) := dk_of ((dk_bind (dk_u1 (h 0 _ rfl))).trans ((dk_bind (dk_u1 (h 1 _ rfl))).trans rfl))
theorem dk_188_10 {code : ByteArray} {pc : Nat} (h : DkAt code pc [188, 10]) : decode code pc = .ok (.newarray .int, 2) := dk_of ((dk_bind (dk_u1 (h 0 _ rfl))).trans ((dk_bind (dk_u1 (h 1 _ rfl))).trans rfl))
theorem dk_188_11 {code : ByteArray} {pc : Nat} (h : DkAt code pc [188, 11]) : decode code pc = .ok (.newarray .long, 2) := dk_of ((dk_bind (dk_u1 (h 0 _ rfl))).trans ((dk_bind (dk_u1 (h 1 _ rfl))).trans rfl))
theorem dk_189 {code : ByteArray} {pc : Nat} (a b : UInt8) (h : DkAt code pc [189, a, b]) : decode code pc = .ok (.anewarray (a.toNat * 256 + b.toNat), 3) := dk_of ((dk_bind (dk_u1 (h 0 _ rfl))).trans ((dk_bind (dk_u2 (h 1 _ rfl) (h 2 _ rfl))).trans rfl))
theorem dk_190 {code : ByteArray} {pc : Nat} (h : DkAt code pc [190]) : decode code pc = .ok (.arraylength, 1) := dk_of ((dk_bind (dk_u1 (h 0 _ rfl))).trans rfl)
theorem dk_191 {code : ByteArray} {pc : Nat} (h : DkAt code pc [191]) : decode code pc = .ok (.athrow, 1) := dk_of ((dk_bind (dk_u1 (h 0 _ rfl))).trans rfl)
theorem dk_192 {code : ByteArray} {pc : Nat} (a b : UInt8) (h : DkAt code pc [192, a, b]) : decode code pc = .ok (.checkcast (a.toNat * 256 + b.toNat), 3) := dk_of ((dk_bind (dk_u1 (h 0 _ rfl))).trans ((dk_bind (dk_u2 (h 1 _ rfl) (h 2 _ rfl))).trans rfl))
theorem dk_193 {code : ByteArray} {pc : Nat} (a b : UInt8) (h : DkAt code pc [193, a, b]) : decode code pc = .ok (.instanceof (a.toNat * 256 + b.toNat), 3) := dk_of ((dk_bind (dk_u1 (h 0 _ rfl))).trans ((dk_bind (dk_u2 (h 1 _ rfl) (h 2 _ rfl))).trans rfl))
theorem dk_199 {code : ByteArray} {pc : Nat} (a b : UInt8) (h : DkAt code pc [199, a, b]) : decode code pc = .ok (.ifnonnull (Reader.signed 16 (a.toNat * 256 + b.toNat)), 3) := dk_of ((dk_bind (dk_u1 (h 0 _ rfl))).trans ((dk_bind (dk_map (dk_u2 (h 1 _ rfl) (h 2 _ rfl)))).trans rfl))

/-! java/lang/Throwable -/
set_option maxRecDepth 100000
def RJ0 : String := "java/lang/Throwable"
def TJ0 : u_T := fun k => match k with
  | 0 => ("java/lang/Throwable", "cause", "Ljava/lang/Throwable;", false)
  | 1 => ("java/lang/Throwable", "stackTrace", "[Ljava/lang/StackTraceElement;", false)
  | 2 => ("java/lang/Throwable", "suppressedExceptions", "Ljava/util/List;", false)
  | 3 => ("java/lang/Throwable", "detailMessage", "Ljava/lang/String;", false)
  | _ => ("java/lang/Throwable", "backtrace", "Ljava/lang/Object;", false)
def tyJ0 : Nat → FieldType := fun k => match k with
  | 0 => .object "java/lang/Throwable"
  | 1 => .array (.object "java/lang/StackTraceElement")
  | 2 => .object "java/util/List"
  | 3 => .object "java/lang/String"
  | _ => .object "java/lang/Object"
abbrev wsJ00 : List Cond := u_ws RJ0 TJ0 5
theorem nmJ0 : ∀ a, a < 5 → ∀ b, b < 5 → a ≠ b → (TJ0 a).2.1 ≠ (TJ0 b).2.1 := by decide +kernel
theorem tyJ0_ok : ∀ k, k < 5 → parseFieldDescriptor (TJ0 k).2.2.1 = some (tyJ0 k) := by decide +kernel
abbrev cJ0_init : ByteArray := prog_24_method_1_code
def yJ0_init : MethodName := ⟨RJ0, "<init>", "()V"⟩
def dkwJ0_init_1 : List UInt8 := [182, 0, 27, 87, 177]
abbrev dktJ0_init_1 : List UInt8 := dkwJ0_init_1 ++ []
def dkwJ0_init_0 : List UInt8 := [42, 183, 0, 1, 42, 42, 181, 0, 7, 42, 178, 0, 13, 181, 0, 17, 42, 178, 0, 20, 181, 0, 24, 42]
abbrev dktJ0_init_0 : List UInt8 := dkwJ0_init_0 ++ dktJ0_init_1
theorem dksJ0_init_0 : cJ0_init.data.toList.drop 0 = dktJ0_init_0 := by decide +kernel
theorem dksJ0_init_1 : cJ0_init.data.toList.drop 24 = dktJ0_init_1 := dk_seg dksJ0_init_0 24 rfl rfl
theorem dJ0_init_0 : decode cJ0_init 0 = .ok (.aload_n 0, 1) := dk_42 (dk_at dksJ0_init_0 0 rfl rfl)
theorem dJ0_init_1 : decode cJ0_init 1 = .ok (.invokespecial 1, 3) := dk_183 0 1 (dk_at dksJ0_init_0 1 rfl rfl)
theorem dJ0_init_4 : decode cJ0_init 4 = .ok (.aload_n 0, 1) := dk_42 (dk_at dksJ0_init_0 4 rfl rfl)
theorem dJ0_init_5 : decode cJ0_init 5 = .ok (.aload_n 0, 1) := dk_42 (dk_at dksJ0_init_0 5 rfl rfl)
theorem dJ0_init_6 : decode cJ0_init 6 = .ok (.putfield 7, 3) := dk_181 0 7 (dk_at dksJ0_init_0 6 rfl rfl)
theorem dJ0_init_9 : decode cJ0_init 9 = .ok (.aload_n 0, 1) := dk_42 (dk_at dksJ0_init_0 9 rfl rfl)
theorem dJ0_init_10 : decode cJ0_init 10 = .ok (.getstatic 13, 3) := dk_178 0 13 (dk_at dksJ0_init_0 10 rfl rfl)
theorem dJ0_init_13 : decode cJ0_init 13 = .ok (.putfield 17, 3) := dk_181 0 17 (dk_at dksJ0_init_0 13 rfl rfl)
theorem dJ0_init_16 : decode cJ0_init 16 = .ok (.aload_n 0, 1) := dk_42 (dk_at dksJ0_init_0 16 rfl rfl)
theorem dJ0_init_17 : decode cJ0_init 17 = .ok (.getstatic 20, 3) := dk_178 0 20 (dk_at dksJ0_init_0 17 rfl rfl)
theorem dJ0_init_20 : decode cJ0_init 20 = .ok (.putfield 24, 3) := dk_181 0 24 (dk_at dksJ0_init_0 20 rfl rfl)
theorem dJ0_init_23 : decode cJ0_init 23 = .ok (.aload_n 0, 1) := dk_42 (dk_at dksJ0_init_0 23 rfl rfl)
theorem dJ0_init_24 : decode cJ0_init 24 = .ok (.invokevirtual 27, 3) := dk_182 0 27 (dk_at dksJ0_init_1 0 rfl rfl)
theorem dJ0_init_27 : decode cJ0_init 27 = .ok (.pop, 1) := dk_87 (dk_at dksJ0_init_1 3 rfl rfl)
theorem dJ0_init_28 : decode cJ0_init 28 = .ok (.return_, 1) := dk_177 (dk_at dksJ0_init_1 4 rfl rfl)
abbrev cJ0_init_2 : ByteArray := prog_24_method_5_code
def yJ0_init_2 : MethodName := ⟨RJ0, "<init>", "(Ljava/lang/String;Ljava/lang/Throwable;ZZ)V"⟩
def dkwJ0_init_2_2 : List UInt8 := [44, 181, 0, 7, 29, 154, 0, 8, 42, 1, 181, 0, 24, 177]
abbrev dktJ0_init_2_2 : List UInt8 := dkwJ0_init_2_2 ++ []
def dkwJ0_init_2_1 : List UInt8 := [21, 4, 153, 0, 11, 42, 182, 0, 27, 87, 167, 0, 8, 42, 1, 181, 0, 17, 42, 43, 181, 0, 31, 42]
abbrev dktJ0_init_2_1 : List UInt8 := dkwJ0_init_2_1 ++ dktJ0_init_2_2
def dkwJ0_init_2_0 : List UInt8 := [42, 183, 0, 1, 42, 42, 181, 0, 7, 42, 178, 0, 13, 181, 0, 17, 42, 178, 0, 20, 181, 0, 24]
abbrev dktJ0_init_2_0 : List UInt8 := dkwJ0_init_2_0 ++ dktJ0_init_2_1
theorem dksJ0_init_2_0 : cJ0_init_2.data.toList.drop 0 = dktJ0_init_2_0 := by decide +kernel
theorem dksJ0_init_2_1 : cJ0_init_2.data.toList.drop 23 = dktJ0_init_2_1 := dk_seg dksJ0_init_2_0 23 rfl rfl
theorem dksJ0_init_2_2 : cJ0_init_2.data.toList.drop 47 = dktJ0_init_2_2 := dk_seg dksJ0_init_2_1 24 rfl rfl
theorem dJ0_init_2_0 : decode cJ0_init_2 0 = .ok (.aload_n 0, 1) := dk_42 (dk_at dksJ0_init_2_0 0 rfl rfl)
theorem dJ0_init_2_1 : decode cJ0_init_2 1 = .ok (.invokespecial 1, 3) := dk_183 0 1 (dk_at dksJ0_init_2_0 1 rfl rfl)
theorem dJ0_init_2_4 : decode cJ0_init_2 4 = .ok (.aload_n 0, 1) := dk_42 (dk_at dksJ0_init_2_0 4 rfl rfl)
theorem dJ0_init_2_5 : decode cJ0_init_2 5 = .ok (.aload_n 0, 1) := dk_42 (dk_at dksJ0_init_2_0 5 rfl rfl)
theorem dJ0_init_2_6 : decode cJ0_init_2 6 = .ok (.putfield 7, 3) := dk_181 0 7 (dk_at dksJ0_init_2_0 6 rfl rfl)
theorem dJ0_init_2_9 : decode cJ0_init_2 9 = .ok (.aload_n 0, 1) := dk_42 (dk_at dksJ0_init_2_0 9 rfl rfl)
theorem dJ0_init_2_10 : decode cJ0_init_2 10 = .ok (.getstatic 13, 3) := dk_178 0 13 (dk_at dksJ0_init_2_0 10 rfl rfl)
theorem dJ0_init_2_13 : decode cJ0_init_2 13 = .ok (.putfield 17, 3) := dk_181 0 17 (dk_at dksJ0_init_2_0 13 rfl rfl)
theorem dJ0_init_2_16 : decode cJ0_init_2 16 = .ok (.aload_n 0, 1) := dk_42 (dk_at dksJ0_init_2_0 16 rfl rfl)
theorem dJ0_init_2_17 : decode cJ0_init_2 17 = .ok (.getstatic 20, 3) := dk_178 0 20 (dk_at dksJ0_init_2_0 17 rfl rfl)
theorem dJ0_init_2_20 : decode cJ0_init_2 20 = .ok (.putfield 24, 3) := dk_181 0 24 (dk_at dksJ0_init_2_0 20 rfl rfl)
theorem dJ0_init_2_23 : decode cJ0_init_2 23 = .ok (.iload 4, 2) := dk_21 4 (dk_at dksJ0_init_2_1 0 rfl rfl)
theorem dJ0_init_2_25 : decode cJ0_init_2 25 = .ok (.ifCond .eq 11, 3) := dk_153 0 11 (dk_at dksJ0_init_2_1 2 rfl rfl)
theorem dJ0_init_2_28 : decode cJ0_init_2 28 = .ok (.aload_n 0, 1) := dk_42 (dk_at dksJ0_init_2_1 5 rfl rfl)
theorem dJ0_init_2_29 : decode cJ0_init_2 29 = .ok (.invokevirtual 27, 3) := dk_182 0 27 (dk_at dksJ0_init_2_1 6 rfl rfl)
theorem dJ0_init_2_32 : decode cJ0_init_2 32 = .ok (.pop, 1) := dk_87 (dk_at dksJ0_init_2_1 9 rfl rfl)
theorem dJ0_init_2_33 : decode cJ0_init_2 33 = .ok (.goto 8, 3) := dk_167 0 8 (dk_at dksJ0_init_2_1 10 rfl rfl)
theorem dJ0_init_2_36 : decode cJ0_init_2 36 = .ok (.aload_n 0, 1) := dk_42 (dk_at dksJ0_init_2_1 13 rfl rfl)
theorem dJ0_init_2_37 : decode cJ0_init_2 37 = .ok (.aconst_null, 1) := dk_1 (dk_at dksJ0_init_2_1 14 rfl rfl)
theorem dJ0_init_2_38 : decode cJ0_init_2 38 = .ok (.putfield 17, 3) := dk_181 0 17 (dk_at dksJ0_init_2_1 15 rfl rfl)
theorem dJ0_init_2_41 : decode cJ0_init_2 41 = .ok (.aload_n 0, 1) := dk_42 (dk_at dksJ0_init_2_1 18 rfl rfl)
theorem dJ0_init_2_42 : decode cJ0_init_2 42 = .ok (.aload_n 1, 1) := dk_43 (dk_at dksJ0_init_2_1 19 rfl rfl)
theorem dJ0_init_2_43 : decode cJ0_init_2 43 = .ok (.putfield 31, 3) := dk_181 0 31 (dk_at dksJ0_init_2_1 20 rfl rfl)
theorem dJ0_init_2_46 : decode cJ0_init_2 46 = .ok (.aload_n 0, 1) := dk_42 (dk_at dksJ0_init_2_1 23 rfl rfl)
theorem dJ0_init_2_47 : decode cJ0_init_2 47 = .ok (.aload_n 2, 1) := dk_44 (dk_at dksJ0_init_2_2 0 rfl rfl)
theorem dJ0_init_2_48 : decode cJ0_init_2 48 = .ok (.putfield 7, 3) := dk_181 0 7 (dk_at dksJ0_init_2_2 1 rfl rfl)
theorem dJ0_init_2_51 : decode cJ0_init_2 51 = .ok (.iload_n 3, 1) := dk_29 (dk_at dksJ0_init_2_2 4 rfl rfl)
theorem dJ0_init_2_52 : decode cJ0_init_2 52 = .ok (.ifCond .ne 8, 3) := dk_154 0 8 (dk_at dksJ0_init_2_2 5 rfl rfl)
theorem dJ0_init_2_55 : decode cJ0_init_2 55 = .ok (.aload_n 0, 1) := dk_42 (dk_at dksJ0_init_2_2 8 rfl rfl)
theorem dJ0_init_2_56 : decode cJ0_init_2 56 = .ok (.aconst_null, 1) := dk_1 (dk_at dksJ0_init_2_2 9 rfl rfl)
theorem dJ0_init_2_57 : decode cJ0_init_2 57 = .ok (.putfield 24, 3) := dk_181 0 24 (dk_at dksJ0_init_2_2 10 rfl rfl)
theorem dJ0_init_2_60 : decode cJ0_init_2 60 = .ok (.return_, 1) := dk_177 (dk_at dksJ0_init_2_2 13 rfl rfl)
abbrev cJ0_init_3 : ByteArray := prog_24_method_2_code
def yJ0_init_3 : MethodName := ⟨RJ0, "<init>", "(Ljava/lang/String;)V"⟩
def dkwJ0_init_3_1 : List UInt8 := [182, 0, 27, 87, 42, 43, 181, 0, 31, 177]
abbrev dktJ0_init_3_1 : List UInt8 := dkwJ0_init_3_1 ++ []
def dkwJ0_init_3_0 : List UInt8 := [42, 183, 0, 1, 42, 42, 181, 0, 7, 42, 178, 0, 13, 181, 0, 17, 42, 178, 0, 20, 181, 0, 24, 42]
abbrev dktJ0_init_3_0 : List UInt8 := dkwJ0_init_3_0 ++ dktJ0_init_3_1
theorem dksJ0_init_3_0 : cJ0_init_3.data.toList.drop 0 = dktJ0_init_3_0 := by decide +kernel
theorem dksJ0_init_3_1 : cJ0_init_3.data.toList.drop 24 = dktJ0_init_3_1 := dk_seg dksJ0_init_3_0 24 rfl rfl
theorem dJ0_init_3_0 : decode cJ0_init_3 0 = .ok (.aload_n 0, 1) := dk_42 (dk_at dksJ0_init_3_0 0 rfl rfl)
theorem dJ0_init_3_1 : decode cJ0_init_3 1 = .ok (.invokespecial 1, 3) := dk_183 0 1 (dk_at dksJ0_init_3_0 1 rfl rfl)
theorem dJ0_init_3_4 : decode cJ0_init_3 4 = .ok (.aload_n 0, 1) := dk_42 (dk_at dksJ0_init_3_0 4 rfl rfl)
theorem dJ0_init_3_5 : decode cJ0_init_3 5 = .ok (.aload_n 0, 1) := dk_42 (dk_at dksJ0_init_3_0 5 rfl rfl)
theorem dJ0_init_3_6 : decode cJ0_init_3 6 = .ok (.putfield 7, 3) := dk_181 0 7 (dk_at dksJ0_init_3_0 6 rfl rfl)
theorem dJ0_init_3_9 : decode cJ0_init_3 9 = .ok (.aload_n 0, 1) := dk_42 (dk_at dksJ0_init_3_0 9 rfl rfl)
theorem dJ0_init_3_10 : decode cJ0_init_3 10 = .ok (.getstatic 13, 3) := dk_178 0 13 (dk_at dksJ0_init_3_0 10 rfl rfl)
theorem dJ0_init_3_13 : decode cJ0_init_3 13 = .ok (.putfield 17, 3) := dk_181 0 17 (dk_at dksJ0_init_3_0 13 rfl rfl)
theorem dJ0_init_3_16 : decode cJ0_init_3 16 = .ok (.aload_n 0, 1) := dk_42 (dk_at dksJ0_init_3_0 16 rfl rfl)
theorem dJ0_init_3_17 : decode cJ0_init_3 17 = .ok (.getstatic 20, 3) := dk_178 0 20 (dk_at dksJ0_init_3_0 17 rfl rfl)
theorem dJ0_init_3_20 : decode cJ0_init_3 20 = .ok (.putfield 24, 3) := dk_181 0 24 (dk_at dksJ0_init_3_0 20 rfl rfl)
theorem dJ0_init_3_23 : decode cJ0_init_3 23 = .ok (.aload_n 0, 1) := dk_42 (dk_at dksJ0_init_3_0 23 rfl rfl)
theorem dJ0_init_3_24 : decode cJ0_init_3 24 = .ok (.invokevirtual 27, 3) := dk_182 0 27 (dk_at dksJ0_init_3_1 0 rfl rfl)
theorem dJ0_init_3_27 : decode cJ0_init_3 27 = .ok (.pop, 1) := dk_87 (dk_at dksJ0_init_3_1 3 rfl rfl)
theorem dJ0_init_3_28 : decode cJ0_init_3 28 = .ok (.aload_n 0, 1) := dk_42 (dk_at dksJ0_init_3_1 4 rfl rfl)
theorem dJ0_init_3_29 : decode cJ0_init_3 29 = .ok (.aload_n 1, 1) := dk_43 (dk_at dksJ0_init_3_1 5 rfl rfl)
theorem dJ0_init_3_30 : decode cJ0_init_3 30 = .ok (.putfield 31, 3) := dk_181 0 31 (dk_at dksJ0_init_3_1 6 rfl rfl)
theorem dJ0_init_3_33 : decode cJ0_init_3 33 = .ok (.return_, 1) := dk_177 (dk_at dksJ0_init_3_1 9 rfl rfl)
theorem q61 : (Jvm.Cond.initialized "java/lang/Throwable") ∈ lw_all := lw_g (lw_at lw_m1 8 rfl) rfl
theorem q167 : (Jvm.Cond.declares ({ cls := "java/lang/Throwable", name := "<init>", desc := "()V" } : Jvm.MethodName)) ∈ lw_tbl := lw_at lw_m1 114 rfl
theorem q168 : (Jvm.Cond.declares ({ cls := "java/lang/Throwable", name := "<init>", desc := "(Ljava/lang/String;)V" } : Jvm.MethodName)) ∈ lw_tbl := lw_at lw_m1 115 rfl
theorem q172 : (Jvm.Cond.lays "java/lang/Throwable" "java/lang/Throwable" "cause" "Ljava/lang/Throwable;") ∈ lw_all := lw_g (lw_at lw_m1 119 rfl) rfl
theorem q174 : (Jvm.Cond.lays "java/lang/Throwable" "java/lang/Throwable" "stackTrace" "[Ljava/lang/StackTraceElement;") ∈ lw_all := lw_g (lw_at lw_m1 121 rfl) rfl
theorem q176 : (Jvm.Cond.lays "java/lang/Throwable" "java/lang/Throwable" "suppressedExceptions" "Ljava/util/List;") ∈ lw_all := lw_g (lw_at lw_m1 123 rfl) rfl
theorem q178 : (Jvm.Cond.lays "java/lang/Throwable" "java/lang/Throwable" "detailMessage" "Ljava/lang/String;") ∈ lw_all := lw_g (lw_at lw_m1 125 rfl) rfl
theorem q180 : (Jvm.Cond.lays "java/lang/Throwable" "java/lang/Throwable" "backtrace" "Ljava/lang/Object;") ∈ lw_all := lw_g (lw_at lw_m1 127 rfl) rfl
theorem q181 : (Jvm.Cond.fieldLink "java/lang/Throwable" (198 : Nat) "java/lang/Throwable" "backtrace" "Ljava/lang/Object;") ∈ lw_all := lw_g (lw_at lw_m1 128 rfl) rfl
theorem q182 : (Jvm.Cond.superclass "java/lang/Throwable" "java/lang/Object") ∈ lw_all := lw_g (lw_at lw_m1 129 rfl) rfl
theorem q183 : (Jvm.Cond.instanceMethod ({ cls := "java/lang/Throwable", name := "<init>", desc := "()V" } : Jvm.MethodName)) ∈ lw_all := lw_g (lw_at lw_m1 130 rfl) rfl
theorem q184 : (Jvm.Cond.code ({ cls := "java/lang/Throwable", name := "<init>", desc := "()V" } : Jvm.MethodName) prog_24_method_1_code (1 : Nat) (Option.none : Option Jvm.ClassFile.FieldType)) ∈ lw_all := lw_g (lw_at lw_m1 131 rfl) rfl
theorem q185 : (Jvm.Cond.methodLink "java/lang/Throwable" (1 : Nat) ({ cls := "java/lang/Object", name := "<init>", desc := "()V" } : Jvm.MethodName)) ∈ lw_all := lw_g (lw_at lw_m1 132 rfl) rfl
theorem q186 : (Jvm.Cond.fieldLink "java/lang/Throwable" (13 : Nat) "java/lang/Throwable" "UNASSIGNED_STACK" "[Ljava/lang/StackTraceElement;") ∈ lw_all := lw_g (lw_at lw_m1 133 rfl) rfl
theorem q187 : (Jvm.Cond.laysStatic "java/lang/Throwable" "UNASSIGNED_STACK" "[Ljava/lang/StackTraceElement;") ∈ lw_tbl := lw_at lw_m1 134 rfl
theorem q188 : (Jvm.Cond.fieldLink "java/lang/Throwable" (20 : Nat) "java/lang/Throwable" "SUPPRESSED_SENTINEL" "Ljava/util/List;") ∈ lw_all := lw_g (lw_at lw_m1 135 rfl) rfl
theorem q189 : (Jvm.Cond.laysStatic "java/lang/Throwable" "SUPPRESSED_SENTINEL" "Ljava/util/List;") ∈ lw_tbl := lw_at lw_m1 136 rfl
theorem q190 : (Jvm.Cond.methodLink "java/lang/Throwable" (27 : Nat) ({ cls := "java/lang/Throwable", name := "fillInStackTrace", desc := "()Ljava/lang/Throwable;" } : Jvm.MethodName)) ∈ lw_all := lw_g (lw_at lw_m1 137 rfl) rfl
theorem q191 : (Jvm.Cond.instanceMethod ({ cls := "java/lang/Throwable", name := "fillInStackTrace", desc := "()Ljava/lang/Throwable;" } : Jvm.MethodName)) ∈ lw_all := lw_g (lw_at lw_m1 138 rfl) rfl
theorem q192 : (Jvm.Cond.sameMethod "java/lang/Throwable" "java/lang/Throwable" "fillInStackTrace" "()Ljava/lang/Throwable;") ∈ lw_all := lw_g (lw_at lw_m1 139 rfl) rfl
theorem q207 : (Jvm.Cond.declares ({ cls := "java/lang/Throwable", name := "fillInStackTrace", desc := "()Ljava/lang/Throwable;" } : Jvm.MethodName)) ∈ lw_tbl := lw_at lw_m1 154 rfl
theorem q211 : (Jvm.Cond.codeSync ({ cls := "java/lang/Throwable", name := "fillInStackTrace", desc := "()Ljava/lang/Throwable;" } : Jvm.MethodName) prog_24_method_18_code (1 : Nat) (Option.some (Jvm.ClassFile.FieldType.object "java/lang/Throwable"))) ∈ lw_all := lw_g (lw_at lw_m1 158 rfl) rfl
theorem q212 : (Jvm.Cond.methodLink "java/lang/Throwable" (202 : Nat) ({ cls := "java/lang/Throwable", name := "fillInStackTrace", desc := "(I)Ljava/lang/Throwable;" } : Jvm.MethodName)) ∈ lw_all := lw_g (lw_at lw_m1 159 rfl) rfl
theorem q213 : (Jvm.Cond.privateMethod ({ cls := "java/lang/Throwable", name := "fillInStackTrace", desc := "(I)Ljava/lang/Throwable;" } : Jvm.MethodName)) ∈ lw_tbl := lw_at lw_m1 160 rfl
theorem q214 : (Jvm.Cond.instanceMethod ({ cls := "java/lang/Throwable", name := "fillInStackTrace", desc := "(I)Ljava/lang/Throwable;" } : Jvm.MethodName)) ∈ lw_all := lw_g (lw_at lw_m1 161 rfl) rfl
theorem q215 : (Jvm.Cond.instantiable "java/lang/Throwable" (6 : Nat)) ∈ lw_all := lw_g (lw_at lw_m1 162 rfl) rfl
theorem q216 : (Jvm.Cond.native ({ cls := "java/lang/Throwable", name := "fillInStackTrace", desc := "(I)Ljava/lang/Throwable;" } : Jvm.MethodName)) ∈ lw_all := lw_g (lw_at lw_m1 163 rfl) rfl
theorem q224 : (Jvm.Cond.instanceMethod ({ cls := "java/lang/Throwable", name := "<init>", desc := "(Ljava/lang/String;Ljava/lang/Throwable;ZZ)V" } : Jvm.MethodName)) ∈ lw_all := lw_g (lw_at lw_m1 171 rfl) rfl
theorem q225 : (Jvm.Cond.code ({ cls := "java/lang/Throwable", name := "<init>", desc := "(Ljava/lang/String;Ljava/lang/Throwable;ZZ)V" } : Jvm.MethodName) prog_24_method_5_code (5 : Nat) (Option.none : Option Jvm.ClassFile.FieldType)) ∈ lw_all := lw_g (lw_at lw_m1 172 rfl) rfl
theorem q227 : (Jvm.Cond.fieldLink "java/lang/Throwable" (198 : Nat) "java/lang/Throwable" "backtrace" "Ljava/lang/Object;") ∈ lw_all := lw_g (lw_at lw_m1 174 rfl) rfl
theorem q228 : (Jvm.Cond.fieldLink "java/lang/Throwable" (31 : Nat) "java/lang/Throwable" "detailMessage" "Ljava/lang/String;") ∈ lw_all := lw_g (lw_at lw_m1 175 rfl) rfl
theorem q229 : (Jvm.Cond.fieldLink "java/lang/Throwable" (7 : Nat) "java/lang/Throwable" "cause" "Ljava/lang/Throwable;") ∈ lw_all := lw_g (lw_at lw_m1 176 rfl) rfl
theorem q230 : (Jvm.Cond.fieldLink "java/lang/Throwable" (17 : Nat) "java/lang/Throwable" "stackTrace" "[Ljava/lang/StackTraceElement;") ∈ lw_all := lw_g (lw_at lw_m1 177 rfl) rfl
theorem q231 : (Jvm.Cond.fieldLink "java/lang/Throwable" (24 : Nat) "java/lang/Throwable" "suppressedExceptions" "Ljava/util/List;") ∈ lw_all := lw_g (lw_at lw_m1 178 rfl) rfl
theorem q234 : (Jvm.Cond.soleField "java/lang/Throwable" "backtrace") ∈ lw_all := lw_g (lw_at lw_m1 181 rfl) rfl
theorem q235 : (Jvm.Cond.soleField "java/lang/Throwable" "detailMessage") ∈ lw_all := lw_g (lw_at lw_m1 182 rfl) rfl
theorem q236 : (Jvm.Cond.soleField "java/lang/Throwable" "cause") ∈ lw_all := lw_g (lw_at lw_m1 183 rfl) rfl
theorem q237 : (Jvm.Cond.soleField "java/lang/Throwable" "stackTrace") ∈ lw_all := lw_g (lw_at lw_m1 184 rfl) rfl
theorem q239 : (Jvm.Cond.soleField "java/lang/Throwable" "depth") ∈ lw_all := lw_g (lw_at lw_m1 186 rfl) rfl
theorem q240 : (Jvm.Cond.soleField "java/lang/Throwable" "suppressedExceptions") ∈ lw_all := lw_g (lw_at lw_m1 187 rfl) rfl
theorem q705 : (Jvm.Cond.instanceMethod ({ cls := "java/lang/Throwable", name := "<init>", desc := "(Ljava/lang/String;)V" } : Jvm.MethodName)) ∈ lw_all := lw_g (lw_at lw_m3 172 rfl) rfl
theorem q706 : (Jvm.Cond.code ({ cls := "java/lang/Throwable", name := "<init>", desc := "(Ljava/lang/String;)V" } : Jvm.MethodName) prog_24_method_2_code (2 : Nat) (Option.none : Option Jvm.ClassFile.FieldType)) ∈ lw_all := lw_g (lw_at lw_m3 173 rfl) rfl
theorem q1124 : (Jvm.Cond.sameMethod "java/lang/Throwable" "java/lang/Throwable" "fillInStackTrace" "(I)Ljava/lang/Throwable;") ∈ lw_all := lw_g (lw_at lw_m5 111 rfl) rfl
theorem in_J0 : ∀ w ∈ wsJ00, w ∈ lw_all := lw_in wsJ00 [172, 174, 176, 178, 180] (by decide +kernel) (by decide +kernel)

/-! java/lang/Exception -/
set_option maxRecDepth 100000
def RJ1 : String := "java/lang/Exception"
abbrev cJ1_init : ByteArray := prog_15_method_5_code
def yJ1_init : MethodName := ⟨RJ1, "<init>", "(Ljava/lang/String;Ljava/lang/Throwable;ZZ)V"⟩
def dkwJ1_init_0 : List UInt8 := [42, 43, 44, 29, 21, 4, 183, 0, 16, 177]
abbrev dktJ1_init_0 : List UInt8 := dkwJ1_init_0 ++ []
theorem dksJ1_init_0 : cJ1_init.data.toList.drop 0 = dktJ1_init_0 := by decide +kernel
theorem dJ1_init_0 : decode cJ1_init 0 = .ok (.aload_n 0, 1) := dk_42 (dk_at dksJ1_init_0 0 rfl rfl)
theorem dJ1_init_1 : decode cJ1_init 1 = .ok (.aload_n 1, 1) := dk_43 (dk_at dksJ1_init_0 1 rfl rfl)
theorem dJ1_init_2 : decode cJ1_init 2 = .ok (.aload_n 2, 1) := dk_44 (dk_at dksJ1_init_0 2 rfl rfl)
theorem dJ1_init_3 : decode cJ1_init 3 = .ok (.iload_n 3, 1) := dk_29 (dk_at dksJ1_init_0 3 rfl rfl)
theorem dJ1_init_4 : decode cJ1_init 4 = .ok (.iload 4, 2) := dk_21 4 (dk_at dksJ1_init_0 4 rfl rfl)
theorem dJ1_init_6 : decode cJ1_init 6 = .ok (.invokespecial 16, 3) := dk_183 0 16 (dk_at dksJ1_init_0 6 rfl rfl)
theorem dJ1_init_9 : decode cJ1_init 9 = .ok (.return_, 1) := dk_177 (dk_at dksJ1_init_0 9 rfl rfl)
abbrev cJ1_init_2 : ByteArray := prog_15_method_2_code
def yJ1_init_2 : MethodName := ⟨RJ1, "<init>", "(Ljava/lang/String;)V"⟩
def dkwJ1_init_2_0 : List UInt8 := [42, 43, 183, 0, 7, 177]
abbrev dktJ1_init_2_0 : List UInt8 := dkwJ1_init_2_0 ++ []
theorem dksJ1_init_2_0 : cJ1_init_2.data.toList.drop 0 = dktJ1_init_2_0 := by decide +kernel
theorem dJ1_init_2_0 : decode cJ1_init_2 0 = .ok (.aload_n 0, 1) := dk_42 (dk_at dksJ1_init_2_0 0 rfl rfl)
theorem dJ1_init_2_1 : decode cJ1_init_2 1 = .ok (.aload_n 1, 1) := dk_43 (dk_at dksJ1_init_2_0 1 rfl rfl)
theorem dJ1_init_2_2 : decode cJ1_init_2 2 = .ok (.invokespecial 7, 3) := dk_183 0 7 (dk_at dksJ1_init_2_0 2 rfl rfl)
theorem dJ1_init_2_5 : decode cJ1_init_2 5 = .ok (.return_, 1) := dk_177 (dk_at dksJ1_init_2_0 5 rfl rfl)
abbrev cJ1_init_3 : ByteArray := prog_15_method_1_code
def yJ1_init_3 : MethodName := ⟨RJ1, "<init>", "()V"⟩
theorem dJ1_init_3_0 : decode cJ1_init_3 0 = .ok (.aload_n 0, 1) := by decide +kernel
theorem dJ1_init_3_1 : decode cJ1_init_3 1 = .ok (.invokespecial 1, 3) := by decide +kernel
theorem dJ1_init_3_4 : decode cJ1_init_3 4 = .ok (.return_, 1) := by decide +kernel
theorem q62 : (Jvm.Cond.initialized "java/lang/Exception") ∈ lw_all := lw_g (lw_at lw_m1 9 rfl) rfl
theorem q165 : (Jvm.Cond.declares ({ cls := "java/lang/Exception", name := "<init>", desc := "()V" } : Jvm.MethodName)) ∈ lw_tbl := lw_at lw_m1 112 rfl
theorem q166 : (Jvm.Cond.declares ({ cls := "java/lang/Exception", name := "<init>", desc := "(Ljava/lang/String;)V" } : Jvm.MethodName)) ∈ lw_tbl := lw_at lw_m1 113 rfl
theorem q210 : (Jvm.Cond.superclass "java/lang/Exception" "java/lang/Throwable") ∈ lw_all := lw_g (lw_at lw_m1 157 rfl) rfl
theorem q221 : (Jvm.Cond.instanceMethod ({ cls := "java/lang/Exception", name := "<init>", desc := "(Ljava/lang/String;Ljava/lang/Throwable;ZZ)V" } : Jvm.MethodName)) ∈ lw_all := lw_g (lw_at lw_m1 168 rfl) rfl
theorem q222 : (Jvm.Cond.code ({ cls := "java/lang/Exception", name := "<init>", desc := "(Ljava/lang/String;Ljava/lang/Throwable;ZZ)V" } : Jvm.MethodName) prog_15_method_5_code (5 : Nat) (Option.none : Option Jvm.ClassFile.FieldType)) ∈ lw_all := lw_g (lw_at lw_m1 169 rfl) rfl
theorem q223 : (Jvm.Cond.methodLink "java/lang/Exception" (16 : Nat) ({ cls := "java/lang/Throwable", name := "<init>", desc := "(Ljava/lang/String;Ljava/lang/Throwable;ZZ)V" } : Jvm.MethodName)) ∈ lw_all := lw_g (lw_at lw_m1 170 rfl) rfl
theorem q702 : (Jvm.Cond.instanceMethod ({ cls := "java/lang/Exception", name := "<init>", desc := "(Ljava/lang/String;)V" } : Jvm.MethodName)) ∈ lw_all := lw_g (lw_at lw_m3 169 rfl) rfl
theorem q703 : (Jvm.Cond.code ({ cls := "java/lang/Exception", name := "<init>", desc := "(Ljava/lang/String;)V" } : Jvm.MethodName) prog_15_method_2_code (2 : Nat) (Option.none : Option Jvm.ClassFile.FieldType)) ∈ lw_all := lw_g (lw_at lw_m3 170 rfl) rfl
theorem q704 : (Jvm.Cond.methodLink "java/lang/Exception" (7 : Nat) ({ cls := "java/lang/Throwable", name := "<init>", desc := "(Ljava/lang/String;)V" } : Jvm.MethodName)) ∈ lw_all := lw_g (lw_at lw_m3 171 rfl) rfl
theorem q741 : (Jvm.Cond.instanceMethod ({ cls := "java/lang/Exception", name := "<init>", desc := "()V" } : Jvm.MethodName)) ∈ lw_all := lw_g (lw_at lw_m3 208 rfl) rfl
theorem q742 : (Jvm.Cond.code ({ cls := "java/lang/Exception", name := "<init>", desc := "()V" } : Jvm.MethodName) prog_15_method_1_code (1 : Nat) (Option.none : Option Jvm.ClassFile.FieldType)) ∈ lw_all := lw_g (lw_at lw_m3 209 rfl) rfl
theorem q743 : (Jvm.Cond.methodLink "java/lang/Exception" (1 : Nat) ({ cls := "java/lang/Throwable", name := "<init>", desc := "()V" } : Jvm.MethodName)) ∈ lw_all := lw_g (lw_at lw_m3 210 rfl) rfl

/-! java/lang/ArrayIndexOutOfBoundsException -/
set_option maxRecDepth 100000
def RJ10 : String := "java/lang/ArrayIndexOutOfBoundsException"
def TJ10 : u_T := fun k => match k with
  | 0 => ("java/lang/Throwable", "backtrace", "Ljava/lang/Object;", false)
  | 1 => ("java/lang/Throwable", "detailMessage", "Ljava/lang/String;", false)
  | 2 => ("java/lang/Throwable", "cause", "Ljava/lang/Throwable;", false)
  | 3 => ("java/lang/Throwable", "stackTrace", "[Ljava/lang/StackTraceElement;", false)
  | 4 => ("java/lang/Throwable", "depth", "I", false)
  | _ => ("java/lang/Throwable", "suppressedExceptions", "Ljava/util/List;", false)
def tyJ10 : Nat → FieldType := fun k => match k with
  | 0 => .object "java/lang/Object"
  | 1 => .object "java/lang/String"
  | 2 => .object "java/lang/Throwable"
  | 3 => .array (.object "java/lang/StackTraceElement")
  | 4 => .int
  | _ => .object "java/util/List"
abbrev wsJ100 : List Cond := u_ws RJ10 TJ10 6
theorem nmJ10 : ∀ a, a < 6 → ∀ b, b < 6 → a ≠ b → (TJ10 a).2.1 ≠ (TJ10 b).2.1 := by decide +kernel
theorem tyJ10_ok : ∀ k, k < 6 → parseFieldDescriptor (TJ10 k).2.2.1 = some (tyJ10 k) := by decide +kernel
abbrev cJ10_init : ByteArray := prog_12_method_2_code
def yJ10_init : MethodName := ⟨RJ10, "<init>", "(Ljava/lang/String;)V"⟩
def dkwJ10_init_0 : List UInt8 := [42, 43, 183, 0, 7, 177]
abbrev dktJ10_init_0 : List UInt8 := dkwJ10_init_0 ++ []
theorem dksJ10_init_0 : cJ10_init.data.toList.drop 0 = dktJ10_init_0 := by decide +kernel
theorem dJ10_init_0 : decode cJ10_init 0 = .ok (.aload_n 0, 1) := dk_42 (dk_at dksJ10_init_0 0 rfl rfl)
theorem dJ10_init_1 : decode cJ10_init 1 = .ok (.aload_n 1, 1) := dk_43 (dk_at dksJ10_init_0 1 rfl rfl)
theorem dJ10_init_2 : decode cJ10_init 2 = .ok (.invokespecial 7, 3) := dk_183 0 7 (dk_at dksJ10_init_0 2 rfl rfl)
theorem dJ10_init_5 : decode cJ10_init 5 = .ok (.return_, 1) := dk_177 (dk_at dksJ10_init_0 5 rfl rfl)
theorem q75 : (Jvm.Cond.initialized "java/lang/ArrayIndexOutOfBoundsException") ∈ lw_all := lw_g (lw_at lw_m1 22 rfl) rfl
theorem q193 : (Jvm.Cond.selects "java/lang/ArrayIndexOutOfBoundsException" ({ cls := "java/lang/Throwable", name := "fillInStackTrace", desc := "()Ljava/lang/Throwable;" } : Jvm.MethodName) ({ cls := "java/lang/Throwable", name := "fillInStackTrace", desc := "()Ljava/lang/Throwable;" } : Jvm.MethodName)) ∈ lw_all := lw_g (lw_at lw_m1 140 rfl) rfl
theorem q774 : (Jvm.Cond.instantiable "java/lang/ArrayIndexOutOfBoundsException" (6 : Nat)) ∈ lw_all := lw_g (lw_at lw_m4 1 rfl) rfl
theorem q775 : (Jvm.Cond.instanceMethod ({ cls := "java/lang/ArrayIndexOutOfBoundsException", name := "<init>", desc := "(Ljava/lang/String;)V" } : Jvm.MethodName)) ∈ lw_all := lw_g (lw_at lw_m4 2 rfl) rfl
theorem q776 : (Jvm.Cond.code ({ cls := "java/lang/ArrayIndexOutOfBoundsException", name := "<init>", desc := "(Ljava/lang/String;)V" } : Jvm.MethodName) prog_12_method_2_code (2 : Nat) (Option.none : Option Jvm.ClassFile.FieldType)) ∈ lw_all := lw_g (lw_at lw_m4 3 rfl) rfl
theorem q777 : (Jvm.Cond.methodLink "java/lang/ArrayIndexOutOfBoundsException" (7 : Nat) ({ cls := "java/lang/IndexOutOfBoundsException", name := "<init>", desc := "(Ljava/lang/String;)V" } : Jvm.MethodName)) ∈ lw_all := lw_g (lw_at lw_m4 4 rfl) rfl
theorem q781 : (Jvm.Cond.lays "java/lang/ArrayIndexOutOfBoundsException" "java/lang/Throwable" "backtrace" "Ljava/lang/Object;") ∈ lw_all := lw_g (lw_at lw_m4 8 rfl) rfl
theorem q782 : (Jvm.Cond.lays "java/lang/ArrayIndexOutOfBoundsException" "java/lang/Throwable" "detailMessage" "Ljava/lang/String;") ∈ lw_all := lw_g (lw_at lw_m4 9 rfl) rfl
theorem q783 : (Jvm.Cond.lays "java/lang/ArrayIndexOutOfBoundsException" "java/lang/Throwable" "cause" "Ljava/lang/Throwable;") ∈ lw_all := lw_g (lw_at lw_m4 10 rfl) rfl
theorem q784 : (Jvm.Cond.lays "java/lang/ArrayIndexOutOfBoundsException" "java/lang/Throwable" "stackTrace" "[Ljava/lang/StackTraceElement;") ∈ lw_all := lw_g (lw_at lw_m4 11 rfl) rfl
theorem q785 : (Jvm.Cond.lays "java/lang/ArrayIndexOutOfBoundsException" "java/lang/Throwable" "depth" "I") ∈ lw_all := lw_g (lw_at lw_m4 12 rfl) rfl
theorem q786 : (Jvm.Cond.lays "java/lang/ArrayIndexOutOfBoundsException" "java/lang/Throwable" "suppressedExceptions" "Ljava/util/List;") ∈ lw_all := lw_g (lw_at lw_m4 13 rfl) rfl
theorem q787 : (Jvm.Cond.superclass "java/lang/ArrayIndexOutOfBoundsException" "java/lang/IndexOutOfBoundsException") ∈ lw_all := lw_g (lw_at lw_m4 14 rfl) rfl
theorem q788 : (Jvm.Cond.castable "java/lang/ArrayIndexOutOfBoundsException" "java/lang/ArrayIndexOutOfBoundsException") ∈ lw_tbl := lw_at lw_m4 15 rfl
theorem q791 : (Jvm.Cond.selects "java/lang/ArrayIndexOutOfBoundsException" ({ cls := "java/lang/Throwable", name := "fillInStackTrace", desc := "(I)Ljava/lang/Throwable;" } : Jvm.MethodName) ({ cls := "java/lang/Throwable", name := "fillInStackTrace", desc := "(I)Ljava/lang/Throwable;" } : Jvm.MethodName)) ∈ lw_all := lw_g (lw_at lw_m4 18 rfl) rfl
theorem q1127 : (Jvm.Cond.castable "java/lang/ArrayIndexOutOfBoundsException" "java/lang/IndexOutOfBoundsException") ∈ lw_tbl := lw_at lw_m5 114 rfl
theorem in_J10 : ∀ w ∈ wsJ100, w ∈ lw_all := lw_in wsJ100 [781, 782, 783, 784, 785, 786] (by decide +kernel) (by decide +kernel)

/-! java/lang/ArrayStoreException -/
set_option maxRecDepth 100000
def RJ11 : String := "java/lang/ArrayStoreException"
def TJ11 : u_T := fun k => match k with
  | 0 => ("java/lang/Throwable", "backtrace", "Ljava/lang/Object;", false)
  | 1 => ("java/lang/Throwable", "detailMessage", "Ljava/lang/String;", false)
  | 2 => ("java/lang/Throwable", "cause", "Ljava/lang/Throwable;", false)
  | 3 => ("java/lang/Throwable", "stackTrace", "[Ljava/lang/StackTraceElement;", false)
  | 4 => ("java/lang/Throwable", "depth", "I", false)
  | _ => ("java/lang/Throwable", "suppressedExceptions", "Ljava/util/List;", false)
def tyJ11 : Nat → FieldType := fun k => match k with
  | 0 => .object "java/lang/Object"
  | 1 => .object "java/lang/String"
  | 2 => .object "java/lang/Throwable"
  | 3 => .array (.object "java/lang/StackTraceElement")
  | 4 => .int
  | _ => .object "java/util/List"
abbrev wsJ110 : List Cond := u_ws RJ11 TJ11 6
theorem nmJ11 : ∀ a, a < 6 → ∀ b, b < 6 → a ≠ b → (TJ11 a).2.1 ≠ (TJ11 b).2.1 := by decide +kernel
theorem tyJ11_ok : ∀ k, k < 6 → parseFieldDescriptor (TJ11 k).2.2.1 = some (tyJ11 k) := by decide +kernel
abbrev cJ11_init : ByteArray := prog_13_method_2_code
def yJ11_init : MethodName := ⟨RJ11, "<init>", "(Ljava/lang/String;)V"⟩
def dkwJ11_init_0 : List UInt8 := [42, 43, 183, 0, 7, 177]
abbrev dktJ11_init_0 : List UInt8 := dkwJ11_init_0 ++ []
theorem dksJ11_init_0 : cJ11_init.data.toList.drop 0 = dktJ11_init_0 := by decide +kernel
theorem dJ11_init_0 : decode cJ11_init 0 = .ok (.aload_n 0, 1) := dk_42 (dk_at dksJ11_init_0 0 rfl rfl)
theorem dJ11_init_1 : decode cJ11_init 1 = .ok (.aload_n 1, 1) := dk_43 (dk_at dksJ11_init_0 1 rfl rfl)
theorem dJ11_init_2 : decode cJ11_init 2 = .ok (.invokespecial 7, 3) := dk_183 0 7 (dk_at dksJ11_init_0 2 rfl rfl)
theorem dJ11_init_5 : decode cJ11_init 5 = .ok (.return_, 1) := dk_177 (dk_at dksJ11_init_0 5 rfl rfl)
theorem q76 : (Jvm.Cond.initialized "java/lang/ArrayStoreException") ∈ lw_all := lw_g (lw_at lw_m1 23 rfl) rfl
theorem q194 : (Jvm.Cond.selects "java/lang/ArrayStoreException" ({ cls := "java/lang/Throwable", name := "fillInStackTrace", desc := "()Ljava/lang/Throwable;" } : Jvm.MethodName) ({ cls := "java/lang/Throwable", name := "fillInStackTrace", desc := "()Ljava/lang/Throwable;" } : Jvm.MethodName)) ∈ lw_all := lw_g (lw_at lw_m1 141 rfl) rfl
theorem q797 : (Jvm.Cond.instantiable "java/lang/ArrayStoreException" (6 : Nat)) ∈ lw_all := lw_g (lw_at lw_m4 24 rfl) rfl
theorem q798 : (Jvm.Cond.instanceMethod ({ cls := "java/lang/ArrayStoreException", name := "<init>", desc := "(Ljava/lang/String;)V" } : Jvm.MethodName)) ∈ lw_all := lw_g (lw_at lw_m4 25 rfl) rfl
theorem q799 : (Jvm.Cond.code ({ cls := "java/lang/ArrayStoreException", name := "<init>", desc := "(Ljava/lang/String;)V" } : Jvm.MethodName) prog_13_method_2_code (2 : Nat) (Option.none : Option Jvm.ClassFile.FieldType)) ∈ lw_all := lw_g (lw_at lw_m4 26 rfl) rfl
theorem q800 : (Jvm.Cond.methodLink "java/lang/ArrayStoreException" (7 : Nat) ({ cls := "java/lang/RuntimeException", name := "<init>", desc := "(Ljava/lang/String;)V" } : Jvm.MethodName)) ∈ lw_all := lw_g (lw_at lw_m4 27 rfl) rfl
theorem q801 : (Jvm.Cond.lays "java/lang/ArrayStoreException" "java/lang/Throwable" "backtrace" "Ljava/lang/Object;") ∈ lw_all := lw_g (lw_at lw_m4 28 rfl) rfl
theorem q802 : (Jvm.Cond.lays "java/lang/ArrayStoreException" "java/lang/Throwable" "detailMessage" "Ljava/lang/String;") ∈ lw_all := lw_g (lw_at lw_m4 29 rfl) rfl
theorem q803 : (Jvm.Cond.lays "java/lang/ArrayStoreException" "java/lang/Throwable" "cause" "Ljava/lang/Throwable;") ∈ lw_all := lw_g (lw_at lw_m4 30 rfl) rfl
theorem q804 : (Jvm.Cond.lays "java/lang/ArrayStoreException" "java/lang/Throwable" "stackTrace" "[Ljava/lang/StackTraceElement;") ∈ lw_all := lw_g (lw_at lw_m4 31 rfl) rfl
theorem q805 : (Jvm.Cond.lays "java/lang/ArrayStoreException" "java/lang/Throwable" "depth" "I") ∈ lw_all := lw_g (lw_at lw_m4 32 rfl) rfl
theorem q806 : (Jvm.Cond.lays "java/lang/ArrayStoreException" "java/lang/Throwable" "suppressedExceptions" "Ljava/util/List;") ∈ lw_all := lw_g (lw_at lw_m4 33 rfl) rfl
theorem q807 : (Jvm.Cond.superclass "java/lang/ArrayStoreException" "java/lang/RuntimeException") ∈ lw_all := lw_g (lw_at lw_m4 34 rfl) rfl
theorem q808 : (Jvm.Cond.castable "java/lang/ArrayStoreException" "java/lang/ArrayStoreException") ∈ lw_tbl := lw_at lw_m4 35 rfl
theorem q809 : (Jvm.Cond.selects "java/lang/ArrayStoreException" ({ cls := "java/lang/Throwable", name := "fillInStackTrace", desc := "(I)Ljava/lang/Throwable;" } : Jvm.MethodName) ({ cls := "java/lang/Throwable", name := "fillInStackTrace", desc := "(I)Ljava/lang/Throwable;" } : Jvm.MethodName)) ∈ lw_all := lw_g (lw_at lw_m4 36 rfl) rfl
theorem in_J11 : ∀ w ∈ wsJ110, w ∈ lw_all := lw_in wsJ110 [801, 802, 803, 804, 805, 806] (by decide +kernel) (by decide +kernel)

/-! java/lang/Object -/
set_option maxRecDepth 100000
def RJ12 : String := "java/lang/Object"
abbrev cJ12_init : ByteArray := object_method_1_code
def yJ12_init : MethodName := ⟨RJ12, "<init>", "()V"⟩
theorem dJ12_init_0 : decode cJ12_init 0 = .ok (.return_, 1) := by decide +kernel
theorem q83 : (Jvm.Cond.instanceMethod ({ cls := "java/lang/Object", name := "<init>", desc := "()V" } : Jvm.MethodName)) ∈ lw_all := lw_g (lw_at lw_m1 30 rfl) rfl
theorem q84 : (Jvm.Cond.code ({ cls := "java/lang/Object", name := "<init>", desc := "()V" } : Jvm.MethodName) object_method_1_code (1 : Nat) (Option.none : Option Jvm.ClassFile.FieldType)) ∈ lw_all := lw_g (lw_at lw_m1 31 rfl) rfl

/-! java/lang/Math -/
set_option maxRecDepth 100000
def RJ2 : String := "java/lang/Math"
abbrev cJ2_min : ByteArray := prog_18_method_69_code
def yJ2_min : MethodName := ⟨RJ2, "min", "(II)I"⟩
def dkwJ2_min_0 : List UInt8 := [26, 27, 163, 0, 7, 26, 167, 0, 4, 27, 172]
abbrev dktJ2_min_0 : List UInt8 := dkwJ2_min_0 ++ []
theorem dksJ2_min_0 : cJ2_min.data.toList.drop 0 = dktJ2_min_0 := by decide +kernel
theorem dJ2_min_0 : decode cJ2_min 0 = .ok (.iload_n 0, 1) := dk_26 (dk_at dksJ2_min_0 0 rfl rfl)
theorem dJ2_min_1 : decode cJ2_min 1 = .ok (.iload_n 1, 1) := dk_27 (dk_at dksJ2_min_0 1 rfl rfl)
theorem dJ2_min_2 : decode cJ2_min 2 = .ok (.if_icmp .gt 7, 3) := dk_163 0 7 (dk_at dksJ2_min_0 2 rfl rfl)
theorem dJ2_min_5 : decode cJ2_min 5 = .ok (.iload_n 0, 1) := dk_26 (dk_at dksJ2_min_0 5 rfl rfl)
theorem dJ2_min_6 : decode cJ2_min 6 = .ok (.goto 4, 3) := dk_167 0 4 (dk_at dksJ2_min_0 6 rfl rfl)
theorem dJ2_min_9 : decode cJ2_min 9 = .ok (.iload_n 1, 1) := dk_27 (dk_at dksJ2_min_0 9 rfl rfl)
theorem dJ2_min_10 : decode cJ2_min 10 = .ok (.ireturn, 1) := dk_172 (dk_at dksJ2_min_0 10 rfl rfl)
abbrev cJ2_max : ByteArray := prog_18_method_65_code
def yJ2_max : MethodName := ⟨RJ2, "max", "(II)I"⟩
def dkwJ2_max_0 : List UInt8 := [26, 27, 161, 0, 7, 26, 167, 0, 4, 27, 172]
abbrev dktJ2_max_0 : List UInt8 := dkwJ2_max_0 ++ []
theorem dksJ2_max_0 : cJ2_max.data.toList.drop 0 = dktJ2_max_0 := by decide +kernel
theorem dJ2_max_0 : decode cJ2_max 0 = .ok (.iload_n 0, 1) := dk_26 (dk_at dksJ2_max_0 0 rfl rfl)
theorem dJ2_max_1 : decode cJ2_max 1 = .ok (.iload_n 1, 1) := dk_27 (dk_at dksJ2_max_0 1 rfl rfl)
theorem dJ2_max_2 : decode cJ2_max 2 = .ok (.if_icmp .lt 7, 3) := dk_161 0 7 (dk_at dksJ2_max_0 2 rfl rfl)
theorem dJ2_max_5 : decode cJ2_max 5 = .ok (.iload_n 0, 1) := dk_26 (dk_at dksJ2_max_0 5 rfl rfl)
theorem dJ2_max_6 : decode cJ2_max 6 = .ok (.goto 4, 3) := dk_167 0 4 (dk_at dksJ2_max_0 6 rfl rfl)
theorem dJ2_max_9 : decode cJ2_max 9 = .ok (.iload_n 1, 1) := dk_27 (dk_at dksJ2_max_0 9 rfl rfl)
theorem dJ2_max_10 : decode cJ2_max 10 = .ok (.ireturn, 1) := dk_172 (dk_at dksJ2_max_0 10 rfl rfl)
theorem q66 : (Jvm.Cond.initialized "java/lang/Math") ∈ lw_all := lw_g (lw_at lw_m1 13 rfl) rfl
theorem q367 : (Jvm.Cond.static ({ cls := "java/lang/Math", name := "min", desc := "(II)I" } : Jvm.MethodName)) ∈ lw_all := lw_g (lw_at lw_m2 74 rfl) rfl
theorem q368 : (Jvm.Cond.code ({ cls := "java/lang/Math", name := "min", desc := "(II)I" } : Jvm.MethodName) prog_18_method_69_code (2 : Nat) (Option.some Jvm.ClassFile.FieldType.int)) ∈ lw_all := lw_g (lw_at lw_m2 75 rfl) rfl
theorem q370 : (Jvm.Cond.static ({ cls := "java/lang/Math", name := "max", desc := "(II)I" } : Jvm.MethodName)) ∈ lw_all := lw_g (lw_at lw_m2 77 rfl) rfl
theorem q371 : (Jvm.Cond.code ({ cls := "java/lang/Math", name := "max", desc := "(II)I" } : Jvm.MethodName) prog_18_method_65_code (2 : Nat) (Option.some Jvm.ClassFile.FieldType.int)) ∈ lw_all := lw_g (lw_at lw_m2 78 rfl) rfl

/-! java/lang/Integer -/
set_option maxRecDepth 100000
def RJ3 : String := "java/lang/Integer"
abbrev cJ3_bitCount : ByteArray := prog_17_method_49_code
def yJ3_bitCount : MethodName := ⟨RJ3, "bitCount", "(I)I"⟩
def dkwJ3_bitCount_2 : List UInt8 := [26, 16, 63, 126, 172]
abbrev dktJ3_bitCount_2 : List UInt8 := dkwJ3_bitCount_2 ++ []
def dkwJ3_bitCount_1 : List UInt8 := [26, 26, 7, 124, 96, 19, 1, 11, 126, 59, 26, 26, 16, 8, 124, 96, 59, 26, 26, 16, 16, 124, 96, 59]
abbrev dktJ3_bitCount_1 : List UInt8 := dkwJ3_bitCount_1 ++ dktJ3_bitCount_2
def dkwJ3_bitCount_0 : List UInt8 := [26, 26, 4, 124, 19, 1, 9, 126, 100, 59, 26, 19, 1, 10, 126, 26, 5, 124, 19, 1, 10, 126, 96, 59]
abbrev dktJ3_bitCount_0 : List UInt8 := dkwJ3_bitCount_0 ++ dktJ3_bitCount_1
theorem dksJ3_bitCount_0 : cJ3_bitCount.data.toList.drop 0 = dktJ3_bitCount_0 := by decide +kernel
theorem dksJ3_bitCount_1 : cJ3_bitCount.data.toList.drop 24 = dktJ3_bitCount_1 := dk_seg dksJ3_bitCount_0 24 rfl rfl
theorem dksJ3_bitCount_2 : cJ3_bitCount.data.toList.drop 48 = dktJ3_bitCount_2 := dk_seg dksJ3_bitCount_1 24 rfl rfl
theorem dJ3_bitCount_0 : decode cJ3_bitCount 0 = .ok (.iload_n 0, 1) := dk_26 (dk_at dksJ3_bitCount_0 0 rfl rfl)
theorem dJ3_bitCount_1 : decode cJ3_bitCount 1 = .ok (.iload_n 0, 1) := dk_26 (dk_at dksJ3_bitCount_0 1 rfl rfl)
theorem dJ3_bitCount_2 : decode cJ3_bitCount 2 = .ok (.iconst 1, 1) := dk_4 (dk_at dksJ3_bitCount_0 2 rfl rfl)
theorem dJ3_bitCount_3 : decode cJ3_bitCount 3 = .ok (.iushr, 1) := dk_124 (dk_at dksJ3_bitCount_0 3 rfl rfl)
theorem dJ3_bitCount_4 : decode cJ3_bitCount 4 = .ok (.ldc_w 265, 3) := dk_19 1 9 (dk_at dksJ3_bitCount_0 4 rfl rfl)
theorem dJ3_bitCount_7 : decode cJ3_bitCount 7 = .ok (.iand, 1) := dk_126 (dk_at dksJ3_bitCount_0 7 rfl rfl)
theorem dJ3_bitCount_8 : decode cJ3_bitCount 8 = .ok (.isub, 1) := dk_100 (dk_at dksJ3_bitCount_0 8 rfl rfl)
theorem dJ3_bitCount_9 : decode cJ3_bitCount 9 = .ok (.istore_n 0, 1) := dk_59 (dk_at dksJ3_bitCount_0 9 rfl rfl)
theorem dJ3_bitCount_10 : decode cJ3_bitCount 10 = .ok (.iload_n 0, 1) := dk_26 (dk_at dksJ3_bitCount_0 10 rfl rfl)
theorem dJ3_bitCount_11 : decode cJ3_bitCount 11 = .ok (.ldc_w 266, 3) := dk_19 1 10 (dk_at dksJ3_bitCount_0 11 rfl rfl)
theorem dJ3_bitCount_14 : decode cJ3_bitCount 14 = .ok (.iand, 1) := dk_126 (dk_at dksJ3_bitCount_0 14 rfl rfl)
theorem dJ3_bitCount_15 : decode cJ3_bitCount 15 = .ok (.iload_n 0, 1) := dk_26 (dk_at dksJ3_bitCount_0 15 rfl rfl)
theorem dJ3_bitCount_16 : decode cJ3_bitCount 16 = .ok (.iconst 2, 1) := dk_5 (dk_at dksJ3_bitCount_0 16 rfl rfl)
theorem dJ3_bitCount_17 : decode cJ3_bitCount 17 = .ok (.iushr, 1) := dk_124 (dk_at dksJ3_bitCount_0 17 rfl rfl)
theorem dJ3_bitCount_18 : decode cJ3_bitCount 18 = .ok (.ldc_w 266, 3) := dk_19 1 10 (dk_at dksJ3_bitCount_0 18 rfl rfl)
theorem dJ3_bitCount_21 : decode cJ3_bitCount 21 = .ok (.iand, 1) := dk_126 (dk_at dksJ3_bitCount_0 21 rfl rfl)
theorem dJ3_bitCount_22 : decode cJ3_bitCount 22 = .ok (.iadd, 1) := dk_96 (dk_at dksJ3_bitCount_0 22 rfl rfl)
theorem dJ3_bitCount_23 : decode cJ3_bitCount 23 = .ok (.istore_n 0, 1) := dk_59 (dk_at dksJ3_bitCount_0 23 rfl rfl)
theorem dJ3_bitCount_24 : decode cJ3_bitCount 24 = .ok (.iload_n 0, 1) := dk_26 (dk_at dksJ3_bitCount_1 0 rfl rfl)
theorem dJ3_bitCount_25 : decode cJ3_bitCount 25 = .ok (.iload_n 0, 1) := dk_26 (dk_at dksJ3_bitCount_1 1 rfl rfl)
theorem dJ3_bitCount_26 : decode cJ3_bitCount 26 = .ok (.iconst 4, 1) := dk_7 (dk_at dksJ3_bitCount_1 2 rfl rfl)
theorem dJ3_bitCount_27 : decode cJ3_bitCount 27 = .ok (.iushr, 1) := dk_124 (dk_at dksJ3_bitCount_1 3 rfl rfl)
theorem dJ3_bitCount_28 : decode cJ3_bitCount 28 = .ok (.iadd, 1) := dk_96 (dk_at dksJ3_bitCount_1 4 rfl rfl)
theorem dJ3_bitCount_29 : decode cJ3_bitCount 29 = .ok (.ldc_w 267, 3) := dk_19 1 11 (dk_at dksJ3_bitCount_1 5 rfl rfl)
theorem dJ3_bitCount_32 : decode cJ3_bitCount 32 = .ok (.iand, 1) := dk_126 (dk_at dksJ3_bitCount_1 8 rfl rfl)
theorem dJ3_bitCount_33 : decode cJ3_bitCount 33 = .ok (.istore_n 0, 1) := dk_59 (dk_at dksJ3_bitCount_1 9 rfl rfl)
theorem dJ3_bitCount_34 : decode cJ3_bitCount 34 = .ok (.iload_n 0, 1) := dk_26 (dk_at dksJ3_bitCount_1 10 rfl rfl)
theorem dJ3_bitCount_35 : decode cJ3_bitCount 35 = .ok (.iload_n 0, 1) := dk_26 (dk_at dksJ3_bitCount_1 11 rfl rfl)
theorem dJ3_bitCount_36 : decode cJ3_bitCount 36 = .ok (.bipush 8, 2) := dk_16 8 (dk_at dksJ3_bitCount_1 12 rfl rfl)
theorem dJ3_bitCount_38 : decode cJ3_bitCount 38 = .ok (.iushr, 1) := dk_124 (dk_at dksJ3_bitCount_1 14 rfl rfl)
theorem dJ3_bitCount_39 : decode cJ3_bitCount 39 = .ok (.iadd, 1) := dk_96 (dk_at dksJ3_bitCount_1 15 rfl rfl)
theorem dJ3_bitCount_40 : decode cJ3_bitCount 40 = .ok (.istore_n 0, 1) := dk_59 (dk_at dksJ3_bitCount_1 16 rfl rfl)
theorem dJ3_bitCount_41 : decode cJ3_bitCount 41 = .ok (.iload_n 0, 1) := dk_26 (dk_at dksJ3_bitCount_1 17 rfl rfl)
theorem dJ3_bitCount_42 : decode cJ3_bitCount 42 = .ok (.iload_n 0, 1) := dk_26 (dk_at dksJ3_bitCount_1 18 rfl rfl)
theorem dJ3_bitCount_43 : decode cJ3_bitCount 43 = .ok (.bipush 16, 2) := dk_16 16 (dk_at dksJ3_bitCount_1 19 rfl rfl)
theorem dJ3_bitCount_45 : decode cJ3_bitCount 45 = .ok (.iushr, 1) := dk_124 (dk_at dksJ3_bitCount_1 21 rfl rfl)
theorem dJ3_bitCount_46 : decode cJ3_bitCount 46 = .ok (.iadd, 1) := dk_96 (dk_at dksJ3_bitCount_1 22 rfl rfl)
theorem dJ3_bitCount_47 : decode cJ3_bitCount 47 = .ok (.istore_n 0, 1) := dk_59 (dk_at dksJ3_bitCount_1 23 rfl rfl)
theorem dJ3_bitCount_48 : decode cJ3_bitCount 48 = .ok (.iload_n 0, 1) := dk_26 (dk_at dksJ3_bitCount_2 0 rfl rfl)
theorem dJ3_bitCount_49 : decode cJ3_bitCount 49 = .ok (.bipush 63, 2) := dk_16 63 (dk_at dksJ3_bitCount_2 1 rfl rfl)
theorem dJ3_bitCount_51 : decode cJ3_bitCount 51 = .ok (.iand, 1) := dk_126 (dk_at dksJ3_bitCount_2 3 rfl rfl)
theorem dJ3_bitCount_52 : decode cJ3_bitCount 52 = .ok (.ireturn, 1) := dk_172 (dk_at dksJ3_bitCount_2 4 rfl rfl)
theorem q67 : (Jvm.Cond.initialized "java/lang/Integer") ∈ lw_all := lw_g (lw_at lw_m1 14 rfl) rfl
theorem q409 : (Jvm.Cond.static ({ cls := "java/lang/Integer", name := "bitCount", desc := "(I)I" } : Jvm.MethodName)) ∈ lw_all := lw_g (lw_at lw_m2 116 rfl) rfl
theorem q410 : (Jvm.Cond.code ({ cls := "java/lang/Integer", name := "bitCount", desc := "(I)I" } : Jvm.MethodName) prog_17_method_49_code (1 : Nat) (Option.some Jvm.ClassFile.FieldType.int)) ∈ lw_all := lw_g (lw_at lw_m2 117 rfl) rfl
theorem q411 : (Jvm.Cond.constant "java/lang/Integer" (265 : Nat) (1431655765 : Int32)) ∈ lw_all := lw_g (lw_at lw_m2 118 rfl) rfl
theorem q412 : (Jvm.Cond.constant "java/lang/Integer" (266 : Nat) (858993459 : Int32)) ∈ lw_all := lw_g (lw_at lw_m2 119 rfl) rfl
theorem q413 : (Jvm.Cond.constant "java/lang/Integer" (267 : Nat) (252645135 : Int32)) ∈ lw_all := lw_g (lw_at lw_m2 120 rfl) rfl

/-! java/lang/RuntimeException -/
set_option maxRecDepth 100000
def RJ4 : String := "java/lang/RuntimeException"
abbrev cJ4_init : ByteArray := prog_21_method_2_code
def yJ4_init : MethodName := ⟨RJ4, "<init>", "(Ljava/lang/String;)V"⟩
def dkwJ4_init_0 : List UInt8 := [42, 43, 183, 0, 7, 177]
abbrev dktJ4_init_0 : List UInt8 := dkwJ4_init_0 ++ []
theorem dksJ4_init_0 : cJ4_init.data.toList.drop 0 = dktJ4_init_0 := by decide +kernel
theorem dJ4_init_0 : decode cJ4_init 0 = .ok (.aload_n 0, 1) := dk_42 (dk_at dksJ4_init_0 0 rfl rfl)
theorem dJ4_init_1 : decode cJ4_init 1 = .ok (.aload_n 1, 1) := dk_43 (dk_at dksJ4_init_0 1 rfl rfl)
theorem dJ4_init_2 : decode cJ4_init 2 = .ok (.invokespecial 7, 3) := dk_183 0 7 (dk_at dksJ4_init_0 2 rfl rfl)
theorem dJ4_init_5 : decode cJ4_init 5 = .ok (.return_, 1) := dk_177 (dk_at dksJ4_init_0 5 rfl rfl)
abbrev cJ4_init_2 : ByteArray := prog_21_method_1_code
def yJ4_init_2 : MethodName := ⟨RJ4, "<init>", "()V"⟩
theorem dJ4_init_2_0 : decode cJ4_init_2 0 = .ok (.aload_n 0, 1) := by decide +kernel
theorem dJ4_init_2_1 : decode cJ4_init_2 1 = .ok (.invokespecial 1, 3) := by decide +kernel
theorem dJ4_init_2_4 : decode cJ4_init_2 4 = .ok (.return_, 1) := by decide +kernel
theorem q69 : (Jvm.Cond.initialized "java/lang/RuntimeException") ∈ lw_all := lw_g (lw_at lw_m1 16 rfl) rfl
theorem q206 : (Jvm.Cond.sameMethod "java/lang/RuntimeException" "java/lang/Throwable" "fillInStackTrace" "()Ljava/lang/Throwable;") ∈ lw_all := lw_g (lw_at lw_m1 153 rfl) rfl
theorem q209 : (Jvm.Cond.superclass "java/lang/RuntimeException" "java/lang/Exception") ∈ lw_all := lw_g (lw_at lw_m1 156 rfl) rfl
theorem q699 : (Jvm.Cond.instanceMethod ({ cls := "java/lang/RuntimeException", name := "<init>", desc := "(Ljava/lang/String;)V" } : Jvm.MethodName)) ∈ lw_all := lw_g (lw_at lw_m3 166 rfl) rfl
theorem q700 : (Jvm.Cond.code ({ cls := "java/lang/RuntimeException", name := "<init>", desc := "(Ljava/lang/String;)V" } : Jvm.MethodName) prog_21_method_2_code (2 : Nat) (Option.none : Option Jvm.ClassFile.FieldType)) ∈ lw_all := lw_g (lw_at lw_m3 167 rfl) rfl
theorem q701 : (Jvm.Cond.methodLink "java/lang/RuntimeException" (7 : Nat) ({ cls := "java/lang/Exception", name := "<init>", desc := "(Ljava/lang/String;)V" } : Jvm.MethodName)) ∈ lw_all := lw_g (lw_at lw_m3 168 rfl) rfl
theorem q715 : (Jvm.Cond.declares ({ cls := "java/lang/RuntimeException", name := "<init>", desc := "()V" } : Jvm.MethodName)) ∈ lw_tbl := lw_at lw_m3 182 rfl
theorem q716 : (Jvm.Cond.declares ({ cls := "java/lang/RuntimeException", name := "<init>", desc := "(Ljava/lang/String;)V" } : Jvm.MethodName)) ∈ lw_tbl := lw_at lw_m3 183 rfl
theorem q738 : (Jvm.Cond.instanceMethod ({ cls := "java/lang/RuntimeException", name := "<init>", desc := "()V" } : Jvm.MethodName)) ∈ lw_all := lw_g (lw_at lw_m3 205 rfl) rfl
theorem q739 : (Jvm.Cond.code ({ cls := "java/lang/RuntimeException", name := "<init>", desc := "()V" } : Jvm.MethodName) prog_21_method_1_code (1 : Nat) (Option.none : Option Jvm.ClassFile.FieldType)) ∈ lw_all := lw_g (lw_at lw_m3 206 rfl) rfl
theorem q740 : (Jvm.Cond.methodLink "java/lang/RuntimeException" (1 : Nat) ({ cls := "java/lang/Exception", name := "<init>", desc := "()V" } : Jvm.MethodName)) ∈ lw_all := lw_g (lw_at lw_m3 207 rfl) rfl
theorem q758 : (Jvm.Cond.castable "java/lang/RuntimeException" "java/lang/Throwable") ∈ lw_tbl := lw_at lw_m3 225 rfl

/-! java/lang/NegativeArraySizeException -/
set_option maxRecDepth 100000
def RJ5 : String := "java/lang/NegativeArraySizeException"
def TJ5 : u_T := fun k => match k with
  | 0 => ("java/lang/Throwable", "backtrace", "Ljava/lang/Object;", false)
  | 1 => ("java/lang/Throwable", "detailMessage", "Ljava/lang/String;", false)
  | 2 => ("java/lang/Throwable", "cause", "Ljava/lang/Throwable;", false)
  | 3 => ("java/lang/Throwable", "stackTrace", "[Ljava/lang/StackTraceElement;", false)
  | 4 => ("java/lang/Throwable", "depth", "I", false)
  | _ => ("java/lang/Throwable", "suppressedExceptions", "Ljava/util/List;", false)
def tyJ5 : Nat → FieldType := fun k => match k with
  | 0 => .object "java/lang/Object"
  | 1 => .object "java/lang/String"
  | 2 => .object "java/lang/Throwable"
  | 3 => .array (.object "java/lang/StackTraceElement")
  | 4 => .int
  | _ => .object "java/util/List"
abbrev wsJ50 : List Cond := u_ws RJ5 TJ5 6
theorem nmJ5 : ∀ a, a < 6 → ∀ b, b < 6 → a ≠ b → (TJ5 a).2.1 ≠ (TJ5 b).2.1 := by decide +kernel
theorem tyJ5_ok : ∀ k, k < 6 → parseFieldDescriptor (TJ5 k).2.2.1 = some (tyJ5 k) := by decide +kernel
abbrev cJ5_init : ByteArray := prog_19_method_2_code
def yJ5_init : MethodName := ⟨RJ5, "<init>", "(Ljava/lang/String;)V"⟩
def dkwJ5_init_0 : List UInt8 := [42, 43, 183, 0, 7, 177]
abbrev dktJ5_init_0 : List UInt8 := dkwJ5_init_0 ++ []
theorem dksJ5_init_0 : cJ5_init.data.toList.drop 0 = dktJ5_init_0 := by decide +kernel
theorem dJ5_init_0 : decode cJ5_init 0 = .ok (.aload_n 0, 1) := dk_42 (dk_at dksJ5_init_0 0 rfl rfl)
theorem dJ5_init_1 : decode cJ5_init 1 = .ok (.aload_n 1, 1) := dk_43 (dk_at dksJ5_init_0 1 rfl rfl)
theorem dJ5_init_2 : decode cJ5_init 2 = .ok (.invokespecial 7, 3) := dk_183 0 7 (dk_at dksJ5_init_0 2 rfl rfl)
theorem dJ5_init_5 : decode cJ5_init 5 = .ok (.return_, 1) := dk_177 (dk_at dksJ5_init_0 5 rfl rfl)
theorem q70 : (Jvm.Cond.initialized "java/lang/NegativeArraySizeException") ∈ lw_all := lw_g (lw_at lw_m1 17 rfl) rfl
theorem q196 : (Jvm.Cond.selects "java/lang/NegativeArraySizeException" ({ cls := "java/lang/Throwable", name := "fillInStackTrace", desc := "()Ljava/lang/Throwable;" } : Jvm.MethodName) ({ cls := "java/lang/Throwable", name := "fillInStackTrace", desc := "()Ljava/lang/Throwable;" } : Jvm.MethodName)) ∈ lw_all := lw_g (lw_at lw_m1 143 rfl) rfl
theorem q695 : (Jvm.Cond.instantiable "java/lang/NegativeArraySizeException" (6 : Nat)) ∈ lw_all := lw_g (lw_at lw_m3 162 rfl) rfl
theorem q696 : (Jvm.Cond.instanceMethod ({ cls := "java/lang/NegativeArraySizeException", name := "<init>", desc := "(Ljava/lang/String;)V" } : Jvm.MethodName)) ∈ lw_all := lw_g (lw_at lw_m3 163 rfl) rfl
theorem q697 : (Jvm.Cond.code ({ cls := "java/lang/NegativeArraySizeException", name := "<init>", desc := "(Ljava/lang/String;)V" } : Jvm.MethodName) prog_19_method_2_code (2 : Nat) (Option.none : Option Jvm.ClassFile.FieldType)) ∈ lw_all := lw_g (lw_at lw_m3 164 rfl) rfl
theorem q698 : (Jvm.Cond.methodLink "java/lang/NegativeArraySizeException" (7 : Nat) ({ cls := "java/lang/RuntimeException", name := "<init>", desc := "(Ljava/lang/String;)V" } : Jvm.MethodName)) ∈ lw_all := lw_g (lw_at lw_m3 165 rfl) rfl
theorem q707 : (Jvm.Cond.lays "java/lang/NegativeArraySizeException" "java/lang/Throwable" "backtrace" "Ljava/lang/Object;") ∈ lw_all := lw_g (lw_at lw_m3 174 rfl) rfl
theorem q708 : (Jvm.Cond.lays "java/lang/NegativeArraySizeException" "java/lang/Throwable" "detailMessage" "Ljava/lang/String;") ∈ lw_all := lw_g (lw_at lw_m3 175 rfl) rfl
theorem q709 : (Jvm.Cond.lays "java/lang/NegativeArraySizeException" "java/lang/Throwable" "cause" "Ljava/lang/Throwable;") ∈ lw_all := lw_g (lw_at lw_m3 176 rfl) rfl
theorem q710 : (Jvm.Cond.lays "java/lang/NegativeArraySizeException" "java/lang/Throwable" "stackTrace" "[Ljava/lang/StackTraceElement;") ∈ lw_all := lw_g (lw_at lw_m3 177 rfl) rfl
theorem q711 : (Jvm.Cond.lays "java/lang/NegativeArraySizeException" "java/lang/Throwable" "depth" "I") ∈ lw_all := lw_g (lw_at lw_m3 178 rfl) rfl
theorem q712 : (Jvm.Cond.lays "java/lang/NegativeArraySizeException" "java/lang/Throwable" "suppressedExceptions" "Ljava/util/List;") ∈ lw_all := lw_g (lw_at lw_m3 179 rfl) rfl
theorem q713 : (Jvm.Cond.superclass "java/lang/NegativeArraySizeException" "java/lang/RuntimeException") ∈ lw_all := lw_g (lw_at lw_m3 180 rfl) rfl
theorem q714 : (Jvm.Cond.castable "java/lang/NegativeArraySizeException" "java/lang/NegativeArraySizeException") ∈ lw_tbl := lw_at lw_m3 181 rfl
theorem q717 : (Jvm.Cond.selects "java/lang/NegativeArraySizeException" ({ cls := "java/lang/Throwable", name := "fillInStackTrace", desc := "(I)Ljava/lang/Throwable;" } : Jvm.MethodName) ({ cls := "java/lang/Throwable", name := "fillInStackTrace", desc := "(I)Ljava/lang/Throwable;" } : Jvm.MethodName)) ∈ lw_all := lw_g (lw_at lw_m3 184 rfl) rfl
theorem in_J5 : ∀ w ∈ wsJ50, w ∈ lw_all := lw_in wsJ50 [707, 708, 709, 710, 711, 712] (by decide +kernel) (by decide +kernel)

/-! java/lang/String -/
set_option maxRecDepth 100000
def RJ6 : String := "java/lang/String"
def TJ6 : u_T := fun k => match k with
  | 0 => ("java/lang/String", "value", "[B", true)
  | _ => ("java/lang/String", "coder", "B", true)
def tyJ6 : Nat → FieldType := fun k => match k with
  | 0 => .array .byte
  | _ => .byte
abbrev wsJ60 : List Cond := u_ws RJ6 TJ6 2
theorem nmJ6 : ∀ a, a < 2 → ∀ b, b < 2 → a ≠ b → (TJ6 a).2.1 ≠ (TJ6 b).2.1 := by decide +kernel
theorem tyJ6_ok : ∀ k, k < 2 → parseFieldDescriptor (TJ6 k).2.2.1 = some (tyJ6 k) := by decide +kernel
theorem q71 : (Jvm.Cond.initialized "java/lang/String") ∈ lw_all := lw_g (lw_at lw_m1 18 rfl) rfl
theorem q718 : (Jvm.Cond.instantiable "java/lang/String" (4 : Nat)) ∈ lw_all := lw_g (lw_at lw_m3 185 rfl) rfl
theorem q720 : (Jvm.Cond.laysFinal "java/lang/String" "java/lang/String" "value" "[B") ∈ lw_all := lw_g (lw_at lw_m3 187 rfl) rfl
theorem q721 : (Jvm.Cond.soleField "java/lang/String" "value") ∈ lw_all := lw_g (lw_at lw_m3 188 rfl) rfl
theorem q722 : (Jvm.Cond.laysFinal "java/lang/String" "java/lang/String" "coder" "B") ∈ lw_all := lw_g (lw_at lw_m3 189 rfl) rfl
theorem q723 : (Jvm.Cond.soleField "java/lang/String" "coder") ∈ lw_all := lw_g (lw_at lw_m3 190 rfl) rfl
theorem in_J6 : ∀ w ∈ wsJ60, w ∈ lw_all := lw_in wsJ60 [720, 722] (by decide +kernel) (by decide +kernel)

/-! java/lang/NullPointerException -/
set_option maxRecDepth 100000
def RJ7 : String := "java/lang/NullPointerException"
def TJ7 : u_T := fun k => match k with
  | 0 => ("java/lang/Throwable", "backtrace", "Ljava/lang/Object;", false)
  | 1 => ("java/lang/Throwable", "detailMessage", "Ljava/lang/String;", false)
  | 2 => ("java/lang/Throwable", "cause", "Ljava/lang/Throwable;", false)
  | 3 => ("java/lang/Throwable", "stackTrace", "[Ljava/lang/StackTraceElement;", false)
  | 4 => ("java/lang/Throwable", "depth", "I", false)
  | 5 => ("java/lang/Throwable", "suppressedExceptions", "Ljava/util/List;", false)
  | 6 => ("java/lang/NullPointerException", "extendedMessageState", "I", false)
  | _ => ("java/lang/NullPointerException", "extendedMessage", "Ljava/lang/String;", false)
def tyJ7 : Nat → FieldType := fun k => match k with
  | 0 => .object "java/lang/Object"
  | 1 => .object "java/lang/String"
  | 2 => .object "java/lang/Throwable"
  | 3 => .array (.object "java/lang/StackTraceElement")
  | 4 => .int
  | 5 => .object "java/util/List"
  | 6 => .int
  | _ => .object "java/lang/String"
abbrev wsJ70 : List Cond := u_ws RJ7 TJ7 8
theorem nmJ7 : ∀ a, a < 8 → ∀ b, b < 8 → a ≠ b → (TJ7 a).2.1 ≠ (TJ7 b).2.1 := by decide +kernel
theorem tyJ7_ok : ∀ k, k < 8 → parseFieldDescriptor (TJ7 k).2.2.1 = some (tyJ7 k) := by decide +kernel
abbrev cJ7_init : ByteArray := prog_20_method_1_code
def yJ7_init : MethodName := ⟨RJ7, "<init>", "()V"⟩
theorem dJ7_init_0 : decode cJ7_init 0 = .ok (.aload_n 0, 1) := by decide +kernel
theorem dJ7_init_1 : decode cJ7_init 1 = .ok (.invokespecial 1, 3) := by decide +kernel
theorem dJ7_init_4 : decode cJ7_init 4 = .ok (.return_, 1) := by decide +kernel
theorem q72 : (Jvm.Cond.initialized "java/lang/NullPointerException") ∈ lw_all := lw_g (lw_at lw_m1 19 rfl) rfl
theorem q197 : (Jvm.Cond.selects "java/lang/NullPointerException" ({ cls := "java/lang/Throwable", name := "fillInStackTrace", desc := "()Ljava/lang/Throwable;" } : Jvm.MethodName) ({ cls := "java/lang/NullPointerException", name := "fillInStackTrace", desc := "()Ljava/lang/Throwable;" } : Jvm.MethodName)) ∈ lw_all := lw_g (lw_at lw_m1 144 rfl) rfl
theorem q198 : (Jvm.Cond.instanceMethod ({ cls := "java/lang/NullPointerException", name := "fillInStackTrace", desc := "()Ljava/lang/Throwable;" } : Jvm.MethodName)) ∈ lw_all := lw_g (lw_at lw_m1 145 rfl) rfl
theorem q199 : (Jvm.Cond.codeSync ({ cls := "java/lang/NullPointerException", name := "fillInStackTrace", desc := "()Ljava/lang/Throwable;" } : Jvm.MethodName) prog_20_method_3_code (1 : Nat) (Option.some (Jvm.ClassFile.FieldType.object "java/lang/Throwable"))) ∈ lw_all := lw_g (lw_at lw_m1 146 rfl) rfl
theorem q200 : (Jvm.Cond.methodLink "java/lang/NullPointerException" (16 : Nat) ({ cls := "java/lang/NullPointerException", name := "getExtendedNPEMessage", desc := "()Ljava/lang/String;" } : Jvm.MethodName)) ∈ lw_all := lw_g (lw_at lw_m1 147 rfl) rfl
theorem q201 : (Jvm.Cond.privateMethod ({ cls := "java/lang/NullPointerException", name := "getExtendedNPEMessage", desc := "()Ljava/lang/String;" } : Jvm.MethodName)) ∈ lw_tbl := lw_at lw_m1 148 rfl
theorem q202 : (Jvm.Cond.instanceMethod ({ cls := "java/lang/NullPointerException", name := "getExtendedNPEMessage", desc := "()Ljava/lang/String;" } : Jvm.MethodName)) ∈ lw_all := lw_g (lw_at lw_m1 149 rfl) rfl
theorem q203 : (Jvm.Cond.instantiable "java/lang/NullPointerException" (8 : Nat)) ∈ lw_all := lw_g (lw_at lw_m1 150 rfl) rfl
theorem q204 : (Jvm.Cond.native ({ cls := "java/lang/NullPointerException", name := "getExtendedNPEMessage", desc := "()Ljava/lang/String;" } : Jvm.MethodName)) ∈ lw_all := lw_g (lw_at lw_m1 151 rfl) rfl
theorem q205 : (Jvm.Cond.methodLink "java/lang/NullPointerException" (24 : Nat) ({ cls := "java/lang/RuntimeException", name := "fillInStackTrace", desc := "()Ljava/lang/Throwable;" } : Jvm.MethodName)) ∈ lw_all := lw_g (lw_at lw_m1 152 rfl) rfl
theorem q208 : (Jvm.Cond.superclass "java/lang/NullPointerException" "java/lang/RuntimeException") ∈ lw_all := lw_g (lw_at lw_m1 155 rfl) rfl
theorem q735 : (Jvm.Cond.instanceMethod ({ cls := "java/lang/NullPointerException", name := "<init>", desc := "()V" } : Jvm.MethodName)) ∈ lw_all := lw_g (lw_at lw_m3 202 rfl) rfl
theorem q736 : (Jvm.Cond.code ({ cls := "java/lang/NullPointerException", name := "<init>", desc := "()V" } : Jvm.MethodName) prog_20_method_1_code (1 : Nat) (Option.none : Option Jvm.ClassFile.FieldType)) ∈ lw_all := lw_g (lw_at lw_m3 203 rfl) rfl
theorem q737 : (Jvm.Cond.methodLink "java/lang/NullPointerException" (1 : Nat) ({ cls := "java/lang/RuntimeException", name := "<init>", desc := "()V" } : Jvm.MethodName)) ∈ lw_all := lw_g (lw_at lw_m3 204 rfl) rfl
theorem q744 : (Jvm.Cond.fieldLink "java/lang/NullPointerException" (10 : Nat) "java/lang/NullPointerException" "extendedMessageState" "I") ∈ lw_all := lw_g (lw_at lw_m3 211 rfl) rfl
theorem q745 : (Jvm.Cond.fieldLink "java/lang/NullPointerException" (20 : Nat) "java/lang/NullPointerException" "extendedMessage" "Ljava/lang/String;") ∈ lw_all := lw_g (lw_at lw_m3 212 rfl) rfl
theorem q746 : (Jvm.Cond.lays "java/lang/NullPointerException" "java/lang/NullPointerException" "extendedMessageState" "I") ∈ lw_all := lw_g (lw_at lw_m3 213 rfl) rfl
theorem q747 : (Jvm.Cond.soleField "java/lang/NullPointerException" "extendedMessageState") ∈ lw_all := lw_g (lw_at lw_m3 214 rfl) rfl
theorem q748 : (Jvm.Cond.lays "java/lang/NullPointerException" "java/lang/NullPointerException" "extendedMessage" "Ljava/lang/String;") ∈ lw_all := lw_g (lw_at lw_m3 215 rfl) rfl
theorem q749 : (Jvm.Cond.soleField "java/lang/NullPointerException" "extendedMessage") ∈ lw_all := lw_g (lw_at lw_m3 216 rfl) rfl
theorem q750 : (Jvm.Cond.lays "java/lang/NullPointerException" "java/lang/Throwable" "backtrace" "Ljava/lang/Object;") ∈ lw_all := lw_g (lw_at lw_m3 217 rfl) rfl
theorem q751 : (Jvm.Cond.lays "java/lang/NullPointerException" "java/lang/Throwable" "detailMessage" "Ljava/lang/String;") ∈ lw_all := lw_g (lw_at lw_m3 218 rfl) rfl
theorem q752 : (Jvm.Cond.lays "java/lang/NullPointerException" "java/lang/Throwable" "cause" "Ljava/lang/Throwable;") ∈ lw_all := lw_g (lw_at lw_m3 219 rfl) rfl
theorem q753 : (Jvm.Cond.lays "java/lang/NullPointerException" "java/lang/Throwable" "stackTrace" "[Ljava/lang/StackTraceElement;") ∈ lw_all := lw_g (lw_at lw_m3 220 rfl) rfl
theorem q754 : (Jvm.Cond.lays "java/lang/NullPointerException" "java/lang/Throwable" "depth" "I") ∈ lw_all := lw_g (lw_at lw_m3 221 rfl) rfl
theorem q755 : (Jvm.Cond.lays "java/lang/NullPointerException" "java/lang/Throwable" "suppressedExceptions" "Ljava/util/List;") ∈ lw_all := lw_g (lw_at lw_m3 222 rfl) rfl
theorem q756 : (Jvm.Cond.castable "java/lang/NullPointerException" "java/lang/NullPointerException") ∈ lw_tbl := lw_at lw_m3 223 rfl
theorem q757 : (Jvm.Cond.selects "java/lang/NullPointerException" ({ cls := "java/lang/Throwable", name := "fillInStackTrace", desc := "(I)Ljava/lang/Throwable;" } : Jvm.MethodName) ({ cls := "java/lang/Throwable", name := "fillInStackTrace", desc := "(I)Ljava/lang/Throwable;" } : Jvm.MethodName)) ∈ lw_all := lw_g (lw_at lw_m3 224 rfl) rfl
theorem in_J7 : ∀ w ∈ wsJ70, w ∈ lw_all := lw_in wsJ70 [750, 751, 752, 753, 754, 755, 746, 748] (by decide +kernel) (by decide +kernel)

/-! java/lang/ClassCastException -/
set_option maxRecDepth 100000
def RJ8 : String := "java/lang/ClassCastException"
def TJ8 : u_T := fun k => match k with
  | 0 => ("java/lang/Throwable", "backtrace", "Ljava/lang/Object;", false)
  | 1 => ("java/lang/Throwable", "detailMessage", "Ljava/lang/String;", false)
  | 2 => ("java/lang/Throwable", "cause", "Ljava/lang/Throwable;", false)
  | 3 => ("java/lang/Throwable", "stackTrace", "[Ljava/lang/StackTraceElement;", false)
  | 4 => ("java/lang/Throwable", "depth", "I", false)
  | _ => ("java/lang/Throwable", "suppressedExceptions", "Ljava/util/List;", false)
def tyJ8 : Nat → FieldType := fun k => match k with
  | 0 => .object "java/lang/Object"
  | 1 => .object "java/lang/String"
  | 2 => .object "java/lang/Throwable"
  | 3 => .array (.object "java/lang/StackTraceElement")
  | 4 => .int
  | _ => .object "java/util/List"
abbrev wsJ80 : List Cond := u_ws RJ8 TJ8 6
theorem nmJ8 : ∀ a, a < 6 → ∀ b, b < 6 → a ≠ b → (TJ8 a).2.1 ≠ (TJ8 b).2.1 := by decide +kernel
theorem tyJ8_ok : ∀ k, k < 6 → parseFieldDescriptor (TJ8 k).2.2.1 = some (tyJ8 k) := by decide +kernel
abbrev cJ8_init : ByteArray := prog_14_method_2_code
def yJ8_init : MethodName := ⟨RJ8, "<init>", "(Ljava/lang/String;)V"⟩
def dkwJ8_init_0 : List UInt8 := [42, 43, 183, 0, 7, 177]
abbrev dktJ8_init_0 : List UInt8 := dkwJ8_init_0 ++ []
theorem dksJ8_init_0 : cJ8_init.data.toList.drop 0 = dktJ8_init_0 := by decide +kernel
theorem dJ8_init_0 : decode cJ8_init 0 = .ok (.aload_n 0, 1) := dk_42 (dk_at dksJ8_init_0 0 rfl rfl)
theorem dJ8_init_1 : decode cJ8_init 1 = .ok (.aload_n 1, 1) := dk_43 (dk_at dksJ8_init_0 1 rfl rfl)
theorem dJ8_init_2 : decode cJ8_init 2 = .ok (.invokespecial 7, 3) := dk_183 0 7 (dk_at dksJ8_init_0 2 rfl rfl)
theorem dJ8_init_5 : decode cJ8_init 5 = .ok (.return_, 1) := dk_177 (dk_at dksJ8_init_0 5 rfl rfl)
theorem q73 : (Jvm.Cond.initialized "java/lang/ClassCastException") ∈ lw_all := lw_g (lw_at lw_m1 20 rfl) rfl
theorem q195 : (Jvm.Cond.selects "java/lang/ClassCastException" ({ cls := "java/lang/Throwable", name := "fillInStackTrace", desc := "()Ljava/lang/Throwable;" } : Jvm.MethodName) ({ cls := "java/lang/Throwable", name := "fillInStackTrace", desc := "()Ljava/lang/Throwable;" } : Jvm.MethodName)) ∈ lw_all := lw_g (lw_at lw_m1 142 rfl) rfl
theorem q760 : (Jvm.Cond.instantiable "java/lang/ClassCastException" (6 : Nat)) ∈ lw_all := lw_g (lw_at lw_m3 227 rfl) rfl
theorem q761 : (Jvm.Cond.instanceMethod ({ cls := "java/lang/ClassCastException", name := "<init>", desc := "(Ljava/lang/String;)V" } : Jvm.MethodName)) ∈ lw_all := lw_g (lw_at lw_m3 228 rfl) rfl
theorem q762 : (Jvm.Cond.code ({ cls := "java/lang/ClassCastException", name := "<init>", desc := "(Ljava/lang/String;)V" } : Jvm.MethodName) prog_14_method_2_code (2 : Nat) (Option.none : Option Jvm.ClassFile.FieldType)) ∈ lw_all := lw_g (lw_at lw_m3 229 rfl) rfl
theorem q763 : (Jvm.Cond.methodLink "java/lang/ClassCastException" (7 : Nat) ({ cls := "java/lang/RuntimeException", name := "<init>", desc := "(Ljava/lang/String;)V" } : Jvm.MethodName)) ∈ lw_all := lw_g (lw_at lw_m3 230 rfl) rfl
theorem q764 : (Jvm.Cond.lays "java/lang/ClassCastException" "java/lang/Throwable" "backtrace" "Ljava/lang/Object;") ∈ lw_all := lw_g (lw_at lw_m3 231 rfl) rfl
theorem q765 : (Jvm.Cond.lays "java/lang/ClassCastException" "java/lang/Throwable" "detailMessage" "Ljava/lang/String;") ∈ lw_all := lw_g (lw_at lw_m3 232 rfl) rfl
theorem q766 : (Jvm.Cond.lays "java/lang/ClassCastException" "java/lang/Throwable" "cause" "Ljava/lang/Throwable;") ∈ lw_all := lw_g (lw_at lw_m3 233 rfl) rfl
theorem q767 : (Jvm.Cond.lays "java/lang/ClassCastException" "java/lang/Throwable" "stackTrace" "[Ljava/lang/StackTraceElement;") ∈ lw_all := lw_g (lw_at lw_m3 234 rfl) rfl
theorem q768 : (Jvm.Cond.lays "java/lang/ClassCastException" "java/lang/Throwable" "depth" "I") ∈ lw_all := lw_g (lw_at lw_m3 235 rfl) rfl
theorem q769 : (Jvm.Cond.lays "java/lang/ClassCastException" "java/lang/Throwable" "suppressedExceptions" "Ljava/util/List;") ∈ lw_all := lw_g (lw_at lw_m3 236 rfl) rfl
theorem q770 : (Jvm.Cond.superclass "java/lang/ClassCastException" "java/lang/RuntimeException") ∈ lw_all := lw_g (lw_at lw_m3 237 rfl) rfl
theorem q771 : (Jvm.Cond.castable "java/lang/ClassCastException" "java/lang/ClassCastException") ∈ lw_tbl := lw_at lw_m3 238 rfl
theorem q772 : (Jvm.Cond.selects "java/lang/ClassCastException" ({ cls := "java/lang/Throwable", name := "fillInStackTrace", desc := "(I)Ljava/lang/Throwable;" } : Jvm.MethodName) ({ cls := "java/lang/Throwable", name := "fillInStackTrace", desc := "(I)Ljava/lang/Throwable;" } : Jvm.MethodName)) ∈ lw_all := lw_g (lw_at lw_m3 239 rfl) rfl
theorem in_J8 : ∀ w ∈ wsJ80, w ∈ lw_all := lw_in wsJ80 [764, 765, 766, 767, 768, 769] (by decide +kernel) (by decide +kernel)

/-! java/lang/IndexOutOfBoundsException -/
set_option maxRecDepth 100000
def RJ9 : String := "java/lang/IndexOutOfBoundsException"
abbrev cJ9_init : ByteArray := prog_16_method_2_code
def yJ9_init : MethodName := ⟨RJ9, "<init>", "(Ljava/lang/String;)V"⟩
def dkwJ9_init_0 : List UInt8 := [42, 43, 183, 0, 7, 177]
abbrev dktJ9_init_0 : List UInt8 := dkwJ9_init_0 ++ []
theorem dksJ9_init_0 : cJ9_init.data.toList.drop 0 = dktJ9_init_0 := by decide +kernel
theorem dJ9_init_0 : decode cJ9_init 0 = .ok (.aload_n 0, 1) := dk_42 (dk_at dksJ9_init_0 0 rfl rfl)
theorem dJ9_init_1 : decode cJ9_init 1 = .ok (.aload_n 1, 1) := dk_43 (dk_at dksJ9_init_0 1 rfl rfl)
theorem dJ9_init_2 : decode cJ9_init 2 = .ok (.invokespecial 7, 3) := dk_183 0 7 (dk_at dksJ9_init_0 2 rfl rfl)
theorem dJ9_init_5 : decode cJ9_init 5 = .ok (.return_, 1) := dk_177 (dk_at dksJ9_init_0 5 rfl rfl)
theorem q74 : (Jvm.Cond.initialized "java/lang/IndexOutOfBoundsException") ∈ lw_all := lw_g (lw_at lw_m1 21 rfl) rfl
theorem q778 : (Jvm.Cond.instanceMethod ({ cls := "java/lang/IndexOutOfBoundsException", name := "<init>", desc := "(Ljava/lang/String;)V" } : Jvm.MethodName)) ∈ lw_all := lw_g (lw_at lw_m4 5 rfl) rfl
theorem q779 : (Jvm.Cond.code ({ cls := "java/lang/IndexOutOfBoundsException", name := "<init>", desc := "(Ljava/lang/String;)V" } : Jvm.MethodName) prog_16_method_2_code (2 : Nat) (Option.none : Option Jvm.ClassFile.FieldType)) ∈ lw_all := lw_g (lw_at lw_m4 6 rfl) rfl
theorem q780 : (Jvm.Cond.methodLink "java/lang/IndexOutOfBoundsException" (7 : Nat) ({ cls := "java/lang/RuntimeException", name := "<init>", desc := "(Ljava/lang/String;)V" } : Jvm.MethodName)) ∈ lw_all := lw_g (lw_at lw_m4 7 rfl) rfl
theorem q789 : (Jvm.Cond.declares ({ cls := "java/lang/IndexOutOfBoundsException", name := "<init>", desc := "()V" } : Jvm.MethodName)) ∈ lw_tbl := lw_at lw_m4 16 rfl
theorem q790 : (Jvm.Cond.declares ({ cls := "java/lang/IndexOutOfBoundsException", name := "<init>", desc := "(Ljava/lang/String;)V" } : Jvm.MethodName)) ∈ lw_tbl := lw_at lw_m4 17 rfl

/-! BattleBench$Plain -/
set_option maxRecDepth 100000
def RX1 : String := "BattleBench$Plain"
abbrev cX1_init : ByteArray := prog_7_method_1_code
def yX1_init : MethodName := ⟨RX1, "<init>", "()V"⟩
theorem dX1_init_0 : decode cX1_init 0 = .ok (.aload_n 0, 1) := by decide +kernel
theorem dX1_init_1 : decode cX1_init 1 = .ok (.invokespecial 1, 3) := by decide +kernel
theorem dX1_init_4 : decode cX1_init 4 = .ok (.return_, 1) := by decide +kernel
abbrev cX1_fails : ByteArray := prog_7_method_2_code
def yX1_fails : MethodName := ⟨RX1, "fails", "(LBattleBench$Bench;I)I"⟩
theorem dX1_fails_0 : decode cX1_fails 0 = .ok (.iconst 2, 1) := by decide +kernel
theorem dX1_fails_1 : decode cX1_fails 1 = .ok (.ireturn, 1) := by decide +kernel
theorem q55 : (Jvm.Cond.initialized "BattleBench$Plain") ∈ lw_all := lw_g (lw_at lw_m1 2 rfl) rfl
theorem q87 : (Jvm.Cond.instantiable "BattleBench$Plain" (0 : Nat)) ∈ lw_all := lw_g (lw_at lw_m1 34 rfl) rfl
theorem q89 : (Jvm.Cond.instanceMethod ({ cls := "BattleBench$Plain", name := "<init>", desc := "()V" } : Jvm.MethodName)) ∈ lw_all := lw_g (lw_at lw_m1 36 rfl) rfl
theorem q90 : (Jvm.Cond.code ({ cls := "BattleBench$Plain", name := "<init>", desc := "()V" } : Jvm.MethodName) prog_7_method_1_code (1 : Nat) (Option.none : Option Jvm.ClassFile.FieldType)) ∈ lw_all := lw_g (lw_at lw_m1 37 rfl) rfl
theorem q91 : (Jvm.Cond.methodLink "BattleBench$Plain" (1 : Nat) ({ cls := "java/lang/Object", name := "<init>", desc := "()V" } : Jvm.MethodName)) ∈ lw_all := lw_g (lw_at lw_m1 38 rfl) rfl
theorem q92 : (Jvm.Cond.superclass "BattleBench$Plain" "java/lang/Object") ∈ lw_all := lw_g (lw_at lw_m1 39 rfl) rfl
theorem q383 : (Jvm.Cond.instanceMethod ({ cls := "BattleBench$Plain", name := "fails", desc := "(LBattleBench$Bench;I)I" } : Jvm.MethodName)) ∈ lw_all := lw_g (lw_at lw_m2 90 rfl) rfl
theorem q384 : (Jvm.Cond.selects "BattleBench$Plain" ({ cls := "BattleBench$Plain", name := "fails", desc := "(LBattleBench$Bench;I)I" } : Jvm.MethodName) ({ cls := "BattleBench$Plain", name := "fails", desc := "(LBattleBench$Bench;I)I" } : Jvm.MethodName)) ∈ lw_all := lw_g (lw_at lw_m2 91 rfl) rfl
theorem q385 : (Jvm.Cond.sameMethod "BattleBench$Plain" "BattleBench$Plain" "fails" "(LBattleBench$Bench;I)I") ∈ lw_all := lw_g (lw_at lw_m2 92 rfl) rfl
theorem q415 : (Jvm.Cond.code ({ cls := "BattleBench$Plain", name := "fails", desc := "(LBattleBench$Bench;I)I" } : Jvm.MethodName) prog_7_method_2_code (3 : Nat) (Option.some Jvm.ClassFile.FieldType.int)) ∈ lw_all := lw_g (lw_at lw_m2 122 rfl) rfl

/-! BattleBench$Hale -/
set_option maxRecDepth 100000
def RX2 : String := "BattleBench$Hale"
abbrev cX2_init : ByteArray := prog_5_method_1_code
def yX2_init : MethodName := ⟨RX2, "<init>", "()V"⟩
theorem dX2_init_0 : decode cX2_init 0 = .ok (.aload_n 0, 1) := by decide +kernel
theorem dX2_init_1 : decode cX2_init 1 = .ok (.invokespecial 1, 3) := by decide +kernel
theorem dX2_init_4 : decode cX2_init 4 = .ok (.return_, 1) := by decide +kernel
abbrev cX2_fails : ByteArray := prog_5_method_2_code
def yX2_fails : MethodName := ⟨RX2, "fails", "(LBattleBench$Bench;I)I"⟩
def dkwX2_fails_0 : List UInt8 := [43, 180, 0, 7, 5, 112, 154, 0, 12, 42, 43, 28, 183, 0, 13, 167, 0, 4, 3, 172]
abbrev dktX2_fails_0 : List UInt8 := dkwX2_fails_0 ++ []
theorem dksX2_fails_0 : cX2_fails.data.toList.drop 0 = dktX2_fails_0 := by decide +kernel
theorem dX2_fails_0 : decode cX2_fails 0 = .ok (.aload_n 1, 1) := dk_43 (dk_at dksX2_fails_0 0 rfl rfl)
theorem dX2_fails_1 : decode cX2_fails 1 = .ok (.getfield 7, 3) := dk_180 0 7 (dk_at dksX2_fails_0 1 rfl rfl)
theorem dX2_fails_4 : decode cX2_fails 4 = .ok (.iconst 2, 1) := dk_5 (dk_at dksX2_fails_0 4 rfl rfl)
theorem dX2_fails_5 : decode cX2_fails 5 = .ok (.irem, 1) := dk_112 (dk_at dksX2_fails_0 5 rfl rfl)
theorem dX2_fails_6 : decode cX2_fails 6 = .ok (.ifCond .ne 12, 3) := dk_154 0 12 (dk_at dksX2_fails_0 6 rfl rfl)
theorem dX2_fails_9 : decode cX2_fails 9 = .ok (.aload_n 0, 1) := dk_42 (dk_at dksX2_fails_0 9 rfl rfl)
theorem dX2_fails_10 : decode cX2_fails 10 = .ok (.aload_n 1, 1) := dk_43 (dk_at dksX2_fails_0 10 rfl rfl)
theorem dX2_fails_11 : decode cX2_fails 11 = .ok (.iload_n 2, 1) := dk_28 (dk_at dksX2_fails_0 11 rfl rfl)
theorem dX2_fails_12 : decode cX2_fails 12 = .ok (.invokespecial 13, 3) := dk_183 0 13 (dk_at dksX2_fails_0 12 rfl rfl)
theorem dX2_fails_15 : decode cX2_fails 15 = .ok (.goto 4, 3) := dk_167 0 4 (dk_at dksX2_fails_0 15 rfl rfl)
theorem dX2_fails_18 : decode cX2_fails 18 = .ok (.iconst 0, 1) := dk_3 (dk_at dksX2_fails_0 18 rfl rfl)
theorem dX2_fails_19 : decode cX2_fails 19 = .ok (.ireturn, 1) := dk_172 (dk_at dksX2_fails_0 19 rfl rfl)
theorem q56 : (Jvm.Cond.initialized "BattleBench$Hale") ∈ lw_all := lw_g (lw_at lw_m1 3 rfl) rfl
theorem q94 : (Jvm.Cond.instantiable "BattleBench$Hale" (0 : Nat)) ∈ lw_all := lw_g (lw_at lw_m1 41 rfl) rfl
theorem q96 : (Jvm.Cond.instanceMethod ({ cls := "BattleBench$Hale", name := "<init>", desc := "()V" } : Jvm.MethodName)) ∈ lw_all := lw_g (lw_at lw_m1 43 rfl) rfl
theorem q97 : (Jvm.Cond.code ({ cls := "BattleBench$Hale", name := "<init>", desc := "()V" } : Jvm.MethodName) prog_5_method_1_code (1 : Nat) (Option.none : Option Jvm.ClassFile.FieldType)) ∈ lw_all := lw_g (lw_at lw_m1 44 rfl) rfl
theorem q98 : (Jvm.Cond.methodLinkNest "BattleBench$Hale" (1 : Nat) ({ cls := "BattleBench$Plain", name := "<init>", desc := "()V" } : Jvm.MethodName) "BattleBench") ∈ lw_tbl := lw_at lw_m1 45 rfl
theorem q99 : (Jvm.Cond.superclass "BattleBench$Hale" "BattleBench$Plain") ∈ lw_all := lw_g (lw_at lw_m1 46 rfl) rfl
theorem q139 : (Jvm.Cond.fieldLinkNest "BattleBench$Hale" (7 : Nat) "BattleBench$Bench" "year" "I" "BattleBench") ∈ lw_tbl := lw_at lw_m1 86 rfl
theorem q390 : (Jvm.Cond.instanceMethod ({ cls := "BattleBench$Hale", name := "fails", desc := "(LBattleBench$Bench;I)I" } : Jvm.MethodName)) ∈ lw_all := lw_g (lw_at lw_m2 97 rfl) rfl
theorem q391 : (Jvm.Cond.code ({ cls := "BattleBench$Hale", name := "fails", desc := "(LBattleBench$Bench;I)I" } : Jvm.MethodName) prog_5_method_2_code (3 : Nat) (Option.some Jvm.ClassFile.FieldType.int)) ∈ lw_all := lw_g (lw_at lw_m2 98 rfl) rfl
theorem q392 : (Jvm.Cond.methodLink "BattleBench$Hale" (13 : Nat) ({ cls := "BattleBench$Plain", name := "fails", desc := "(LBattleBench$Bench;I)I" } : Jvm.MethodName)) ∈ lw_all := lw_g (lw_at lw_m2 99 rfl) rfl
theorem q397 : (Jvm.Cond.selects "BattleBench$Hale" ({ cls := "BattleBench$Plain", name := "fails", desc := "(LBattleBench$Bench;I)I" } : Jvm.MethodName) ({ cls := "BattleBench$Hale", name := "fails", desc := "(LBattleBench$Bench;I)I" } : Jvm.MethodName)) ∈ lw_all := lw_g (lw_at lw_m2 104 rfl) rfl
theorem q1125 : (Jvm.Cond.sameMethod "BattleBench$Hale" "BattleBench$Hale" "fails" "(LBattleBench$Bench;I)I") ∈ lw_all := lw_g (lw_at lw_m5 112 rfl) rfl
theorem q1128 : (Jvm.Cond.castable "BattleBench$Hale" "BattleBench$Plain") ∈ lw_tbl := lw_at lw_m5 115 rfl

/-! BattleBench$Hurt -/
set_option maxRecDepth 100000
def RX3 : String := "BattleBench$Hurt"
abbrev cX3_init : ByteArray := prog_6_method_1_code
def yX3_init : MethodName := ⟨RX3, "<init>", "()V"⟩
theorem dX3_init_0 : decode cX3_init 0 = .ok (.aload_n 0, 1) := by decide +kernel
theorem dX3_init_1 : decode cX3_init 1 = .ok (.invokespecial 1, 3) := by decide +kernel
theorem dX3_init_4 : decode cX3_init 4 = .ok (.return_, 1) := by decide +kernel
abbrev cX3_fails : ByteArray := prog_6_method_2_code
def yX3_fails : MethodName := ⟨RX3, "fails", "(LBattleBench$Bench;I)I"⟩
def dkwX3_fails_0 : List UInt8 := [5, 42, 43, 28, 183, 0, 7, 104, 172]
abbrev dktX3_fails_0 : List UInt8 := dkwX3_fails_0 ++ []
theorem dksX3_fails_0 : cX3_fails.data.toList.drop 0 = dktX3_fails_0 := by decide +kernel
theorem dX3_fails_0 : decode cX3_fails 0 = .ok (.iconst 2, 1) := dk_5 (dk_at dksX3_fails_0 0 rfl rfl)
theorem dX3_fails_1 : decode cX3_fails 1 = .ok (.aload_n 0, 1) := dk_42 (dk_at dksX3_fails_0 1 rfl rfl)
theorem dX3_fails_2 : decode cX3_fails 2 = .ok (.aload_n 1, 1) := dk_43 (dk_at dksX3_fails_0 2 rfl rfl)
theorem dX3_fails_3 : decode cX3_fails 3 = .ok (.iload_n 2, 1) := dk_28 (dk_at dksX3_fails_0 3 rfl rfl)
theorem dX3_fails_4 : decode cX3_fails 4 = .ok (.invokespecial 7, 3) := dk_183 0 7 (dk_at dksX3_fails_0 4 rfl rfl)
theorem dX3_fails_7 : decode cX3_fails 7 = .ok (.imul, 1) := dk_104 (dk_at dksX3_fails_0 7 rfl rfl)
theorem dX3_fails_8 : decode cX3_fails 8 = .ok (.ireturn, 1) := dk_172 (dk_at dksX3_fails_0 8 rfl rfl)
theorem q57 : (Jvm.Cond.initialized "BattleBench$Hurt") ∈ lw_all := lw_g (lw_at lw_m1 4 rfl) rfl
theorem q101 : (Jvm.Cond.instantiable "BattleBench$Hurt" (0 : Nat)) ∈ lw_all := lw_g (lw_at lw_m1 48 rfl) rfl
theorem q103 : (Jvm.Cond.instanceMethod ({ cls := "BattleBench$Hurt", name := "<init>", desc := "()V" } : Jvm.MethodName)) ∈ lw_all := lw_g (lw_at lw_m1 50 rfl) rfl
theorem q104 : (Jvm.Cond.code ({ cls := "BattleBench$Hurt", name := "<init>", desc := "()V" } : Jvm.MethodName) prog_6_method_1_code (1 : Nat) (Option.none : Option Jvm.ClassFile.FieldType)) ∈ lw_all := lw_g (lw_at lw_m1 51 rfl) rfl
theorem q105 : (Jvm.Cond.methodLinkNest "BattleBench$Hurt" (1 : Nat) ({ cls := "BattleBench$Plain", name := "<init>", desc := "()V" } : Jvm.MethodName) "BattleBench") ∈ lw_tbl := lw_at lw_m1 52 rfl
theorem q106 : (Jvm.Cond.superclass "BattleBench$Hurt" "BattleBench$Plain") ∈ lw_all := lw_g (lw_at lw_m1 53 rfl) rfl
theorem q398 : (Jvm.Cond.selects "BattleBench$Hurt" ({ cls := "BattleBench$Plain", name := "fails", desc := "(LBattleBench$Bench;I)I" } : Jvm.MethodName) ({ cls := "BattleBench$Hurt", name := "fails", desc := "(LBattleBench$Bench;I)I" } : Jvm.MethodName)) ∈ lw_all := lw_g (lw_at lw_m2 105 rfl) rfl
theorem q399 : (Jvm.Cond.instanceMethod ({ cls := "BattleBench$Hurt", name := "fails", desc := "(LBattleBench$Bench;I)I" } : Jvm.MethodName)) ∈ lw_all := lw_g (lw_at lw_m2 106 rfl) rfl
theorem q400 : (Jvm.Cond.code ({ cls := "BattleBench$Hurt", name := "fails", desc := "(LBattleBench$Bench;I)I" } : Jvm.MethodName) prog_6_method_2_code (3 : Nat) (Option.some Jvm.ClassFile.FieldType.int)) ∈ lw_all := lw_g (lw_at lw_m2 107 rfl) rfl
theorem q401 : (Jvm.Cond.methodLink "BattleBench$Hurt" (7 : Nat) ({ cls := "BattleBench$Plain", name := "fails", desc := "(LBattleBench$Bench;I)I" } : Jvm.MethodName)) ∈ lw_all := lw_g (lw_at lw_m2 108 rfl) rfl
theorem q1126 : (Jvm.Cond.sameMethod "BattleBench$Hurt" "BattleBench$Hurt" "fails" "(LBattleBench$Bench;I)I") ∈ lw_all := lw_g (lw_at lw_m5 113 rfl) rfl
theorem q1129 : (Jvm.Cond.castable "BattleBench$Hurt" "BattleBench$Plain") ∈ lw_tbl := lw_at lw_m5 116 rfl

/-! BattleBench$Drummer -/
set_option maxRecDepth 100000
def RX4 : String := "BattleBench$Drummer"
abbrev cX4_init : ByteArray := prog_3_method_1_code
def yX4_init : MethodName := ⟨RX4, "<init>", "()V"⟩
theorem dX4_init_0 : decode cX4_init 0 = .ok (.aload_n 0, 1) := by decide +kernel
theorem dX4_init_1 : decode cX4_init 1 = .ok (.invokespecial 1, 3) := by decide +kernel
theorem dX4_init_4 : decode cX4_init 4 = .ok (.return_, 1) := by decide +kernel
abbrev cX4_fails : ByteArray := prog_3_method_2_code
def yX4_fails : MethodName := ⟨RX4, "fails", "(LBattleBench$Bench;I)I"⟩
def dkwX4_fails_0 : List UInt8 := [42, 43, 28, 183, 0, 7, 62, 43, 28, 182, 0, 11, 153, 0, 9, 29, 4, 96, 167, 0, 4, 29, 172]
abbrev dktX4_fails_0 : List UInt8 := dkwX4_fails_0 ++ []
theorem dksX4_fails_0 : cX4_fails.data.toList.drop 0 = dktX4_fails_0 := by decide +kernel
theorem dX4_fails_0 : decode cX4_fails 0 = .ok (.aload_n 0, 1) := dk_42 (dk_at dksX4_fails_0 0 rfl rfl)
theorem dX4_fails_1 : decode cX4_fails 1 = .ok (.aload_n 1, 1) := dk_43 (dk_at dksX4_fails_0 1 rfl rfl)
theorem dX4_fails_2 : decode cX4_fails 2 = .ok (.iload_n 2, 1) := dk_28 (dk_at dksX4_fails_0 2 rfl rfl)
theorem dX4_fails_3 : decode cX4_fails 3 = .ok (.invokespecial 7, 3) := dk_183 0 7 (dk_at dksX4_fails_0 3 rfl rfl)
theorem dX4_fails_6 : decode cX4_fails 6 = .ok (.istore_n 3, 1) := dk_62 (dk_at dksX4_fails_0 6 rfl rfl)
theorem dX4_fails_7 : decode cX4_fails 7 = .ok (.aload_n 1, 1) := dk_43 (dk_at dksX4_fails_0 7 rfl rfl)
theorem dX4_fails_8 : decode cX4_fails 8 = .ok (.iload_n 2, 1) := dk_28 (dk_at dksX4_fails_0 8 rfl rfl)
theorem dX4_fails_9 : decode cX4_fails 9 = .ok (.invokevirtual 11, 3) := dk_182 0 11 (dk_at dksX4_fails_0 9 rfl rfl)
theorem dX4_fails_12 : decode cX4_fails 12 = .ok (.ifCond .eq 9, 3) := dk_153 0 9 (dk_at dksX4_fails_0 12 rfl rfl)
theorem dX4_fails_15 : decode cX4_fails 15 = .ok (.iload_n 3, 1) := dk_29 (dk_at dksX4_fails_0 15 rfl rfl)
theorem dX4_fails_16 : decode cX4_fails 16 = .ok (.iconst 1, 1) := dk_4 (dk_at dksX4_fails_0 16 rfl rfl)
theorem dX4_fails_17 : decode cX4_fails 17 = .ok (.iadd, 1) := dk_96 (dk_at dksX4_fails_0 17 rfl rfl)
theorem dX4_fails_18 : decode cX4_fails 18 = .ok (.goto 4, 3) := dk_167 0 4 (dk_at dksX4_fails_0 18 rfl rfl)
theorem dX4_fails_21 : decode cX4_fails 21 = .ok (.iload_n 3, 1) := dk_29 (dk_at dksX4_fails_0 21 rfl rfl)
theorem dX4_fails_22 : decode cX4_fails 22 = .ok (.ireturn, 1) := dk_172 (dk_at dksX4_fails_0 22 rfl rfl)
theorem q58 : (Jvm.Cond.initialized "BattleBench$Drummer") ∈ lw_all := lw_g (lw_at lw_m1 5 rfl) rfl
theorem q108 : (Jvm.Cond.instantiable "BattleBench$Drummer" (0 : Nat)) ∈ lw_all := lw_g (lw_at lw_m1 55 rfl) rfl
theorem q110 : (Jvm.Cond.instanceMethod ({ cls := "BattleBench$Drummer", name := "<init>", desc := "()V" } : Jvm.MethodName)) ∈ lw_all := lw_g (lw_at lw_m1 57 rfl) rfl
theorem q111 : (Jvm.Cond.code ({ cls := "BattleBench$Drummer", name := "<init>", desc := "()V" } : Jvm.MethodName) prog_3_method_1_code (1 : Nat) (Option.none : Option Jvm.ClassFile.FieldType)) ∈ lw_all := lw_g (lw_at lw_m1 58 rfl) rfl
theorem q112 : (Jvm.Cond.methodLinkNest "BattleBench$Drummer" (1 : Nat) ({ cls := "BattleBench$Hale", name := "<init>", desc := "()V" } : Jvm.MethodName) "BattleBench") ∈ lw_tbl := lw_at lw_m1 59 rfl
theorem q113 : (Jvm.Cond.superclass "BattleBench$Drummer" "BattleBench$Hale") ∈ lw_all := lw_g (lw_at lw_m1 60 rfl) rfl
theorem q386 : (Jvm.Cond.selects "BattleBench$Drummer" ({ cls := "BattleBench$Plain", name := "fails", desc := "(LBattleBench$Bench;I)I" } : Jvm.MethodName) ({ cls := "BattleBench$Drummer", name := "fails", desc := "(LBattleBench$Bench;I)I" } : Jvm.MethodName)) ∈ lw_all := lw_g (lw_at lw_m2 93 rfl) rfl
theorem q387 : (Jvm.Cond.instanceMethod ({ cls := "BattleBench$Drummer", name := "fails", desc := "(LBattleBench$Bench;I)I" } : Jvm.MethodName)) ∈ lw_all := lw_g (lw_at lw_m2 94 rfl) rfl
theorem q388 : (Jvm.Cond.code ({ cls := "BattleBench$Drummer", name := "fails", desc := "(LBattleBench$Bench;I)I" } : Jvm.MethodName) prog_3_method_2_code (4 : Nat) (Option.some Jvm.ClassFile.FieldType.int)) ∈ lw_all := lw_g (lw_at lw_m2 95 rfl) rfl
theorem q389 : (Jvm.Cond.methodLink "BattleBench$Drummer" (7 : Nat) ({ cls := "BattleBench$Hale", name := "fails", desc := "(LBattleBench$Bench;I)I" } : Jvm.MethodName)) ∈ lw_all := lw_g (lw_at lw_m2 96 rfl) rfl
theorem q393 : (Jvm.Cond.methodLink "BattleBench$Drummer" (11 : Nat) ({ cls := "BattleBench$Bench", name := "isAtEnd", desc := "(I)Z" } : Jvm.MethodName)) ∈ lw_all := lw_g (lw_at lw_m2 100 rfl) rfl
theorem q1130 : (Jvm.Cond.castable "BattleBench$Drummer" "BattleBench$Plain") ∈ lw_tbl := lw_at lw_m5 117 rfl

/-! BattleBench$Runner -/
set_option maxRecDepth 100000
def RX5 : String := "BattleBench$Runner"
abbrev cX5_init : ByteArray := prog_8_method_1_code
def yX5_init : MethodName := ⟨RX5, "<init>", "()V"⟩
theorem dX5_init_0 : decode cX5_init 0 = .ok (.aload_n 0, 1) := by decide +kernel
theorem dX5_init_1 : decode cX5_init 1 = .ok (.invokespecial 1, 3) := by decide +kernel
theorem dX5_init_4 : decode cX5_init 4 = .ok (.return_, 1) := by decide +kernel
abbrev cX5_fails : ByteArray := prog_8_method_2_code
def yX5_fails : MethodName := ⟨RX5, "fails", "(LBattleBench$Bench;I)I"⟩
def dkwX5_fails_1 : List UInt8 := [184, 0, 25, 172]
abbrev dktX5_fails_1 : List UInt8 := dkwX5_fails_1 ++ []
def dkwX5_fails_0 : List UInt8 := [3, 42, 43, 28, 183, 0, 7, 43, 28, 182, 0, 11, 43, 28, 182, 0, 17, 126, 184, 0, 20, 100]
abbrev dktX5_fails_0 : List UInt8 := dkwX5_fails_0 ++ dktX5_fails_1
theorem dksX5_fails_0 : cX5_fails.data.toList.drop 0 = dktX5_fails_0 := by decide +kernel
theorem dksX5_fails_1 : cX5_fails.data.toList.drop 22 = dktX5_fails_1 := dk_seg dksX5_fails_0 22 rfl rfl
theorem dX5_fails_0 : decode cX5_fails 0 = .ok (.iconst 0, 1) := dk_3 (dk_at dksX5_fails_0 0 rfl rfl)
theorem dX5_fails_1 : decode cX5_fails 1 = .ok (.aload_n 0, 1) := dk_42 (dk_at dksX5_fails_0 1 rfl rfl)
theorem dX5_fails_2 : decode cX5_fails 2 = .ok (.aload_n 1, 1) := dk_43 (dk_at dksX5_fails_0 2 rfl rfl)
theorem dX5_fails_3 : decode cX5_fails 3 = .ok (.iload_n 2, 1) := dk_28 (dk_at dksX5_fails_0 3 rfl rfl)
theorem dX5_fails_4 : decode cX5_fails 4 = .ok (.invokespecial 7, 3) := dk_183 0 7 (dk_at dksX5_fails_0 4 rfl rfl)
theorem dX5_fails_7 : decode cX5_fails 7 = .ok (.aload_n 1, 1) := dk_43 (dk_at dksX5_fails_0 7 rfl rfl)
theorem dX5_fails_8 : decode cX5_fails 8 = .ok (.iload_n 2, 1) := dk_28 (dk_at dksX5_fails_0 8 rfl rfl)
theorem dX5_fails_9 : decode cX5_fails 9 = .ok (.invokevirtual 11, 3) := dk_182 0 11 (dk_at dksX5_fails_0 9 rfl rfl)
theorem dX5_fails_12 : decode cX5_fails 12 = .ok (.aload_n 1, 1) := dk_43 (dk_at dksX5_fails_0 12 rfl rfl)
theorem dX5_fails_13 : decode cX5_fails 13 = .ok (.iload_n 2, 1) := dk_28 (dk_at dksX5_fails_0 13 rfl rfl)
theorem dX5_fails_14 : decode cX5_fails 14 = .ok (.invokevirtual 17, 3) := dk_182 0 17 (dk_at dksX5_fails_0 14 rfl rfl)
theorem dX5_fails_17 : decode cX5_fails 17 = .ok (.iand, 1) := dk_126 (dk_at dksX5_fails_0 17 rfl rfl)
theorem dX5_fails_18 : decode cX5_fails 18 = .ok (.invokestatic 20, 3) := dk_184 0 20 (dk_at dksX5_fails_0 18 rfl rfl)
theorem dX5_fails_21 : decode cX5_fails 21 = .ok (.isub, 1) := dk_100 (dk_at dksX5_fails_0 21 rfl rfl)
theorem dX5_fails_22 : decode cX5_fails 22 = .ok (.invokestatic 25, 3) := dk_184 0 25 (dk_at dksX5_fails_1 0 rfl rfl)
theorem dX5_fails_25 : decode cX5_fails 25 = .ok (.ireturn, 1) := dk_172 (dk_at dksX5_fails_1 3 rfl rfl)
theorem q59 : (Jvm.Cond.initialized "BattleBench$Runner") ∈ lw_all := lw_g (lw_at lw_m1 6 rfl) rfl
theorem q115 : (Jvm.Cond.instantiable "BattleBench$Runner" (0 : Nat)) ∈ lw_all := lw_g (lw_at lw_m1 62 rfl) rfl
theorem q117 : (Jvm.Cond.instanceMethod ({ cls := "BattleBench$Runner", name := "<init>", desc := "()V" } : Jvm.MethodName)) ∈ lw_all := lw_g (lw_at lw_m1 64 rfl) rfl
theorem q118 : (Jvm.Cond.code ({ cls := "BattleBench$Runner", name := "<init>", desc := "()V" } : Jvm.MethodName) prog_8_method_1_code (1 : Nat) (Option.none : Option Jvm.ClassFile.FieldType)) ∈ lw_all := lw_g (lw_at lw_m1 65 rfl) rfl
theorem q119 : (Jvm.Cond.methodLinkNest "BattleBench$Runner" (1 : Nat) ({ cls := "BattleBench$Hurt", name := "<init>", desc := "()V" } : Jvm.MethodName) "BattleBench") ∈ lw_tbl := lw_at lw_m1 66 rfl
theorem q120 : (Jvm.Cond.superclass "BattleBench$Runner" "BattleBench$Hurt") ∈ lw_all := lw_g (lw_at lw_m1 67 rfl) rfl
theorem q402 : (Jvm.Cond.selects "BattleBench$Runner" ({ cls := "BattleBench$Plain", name := "fails", desc := "(LBattleBench$Bench;I)I" } : Jvm.MethodName) ({ cls := "BattleBench$Runner", name := "fails", desc := "(LBattleBench$Bench;I)I" } : Jvm.MethodName)) ∈ lw_all := lw_g (lw_at lw_m2 109 rfl) rfl
theorem q403 : (Jvm.Cond.instanceMethod ({ cls := "BattleBench$Runner", name := "fails", desc := "(LBattleBench$Bench;I)I" } : Jvm.MethodName)) ∈ lw_all := lw_g (lw_at lw_m2 110 rfl) rfl
theorem q404 : (Jvm.Cond.code ({ cls := "BattleBench$Runner", name := "fails", desc := "(LBattleBench$Bench;I)I" } : Jvm.MethodName) prog_8_method_2_code (3 : Nat) (Option.some Jvm.ClassFile.FieldType.int)) ∈ lw_all := lw_g (lw_at lw_m2 111 rfl) rfl
theorem q405 : (Jvm.Cond.methodLink "BattleBench$Runner" (7 : Nat) ({ cls := "BattleBench$Hurt", name := "fails", desc := "(LBattleBench$Bench;I)I" } : Jvm.MethodName)) ∈ lw_all := lw_g (lw_at lw_m2 112 rfl) rfl
theorem q406 : (Jvm.Cond.methodLink "BattleBench$Runner" (11 : Nat) ({ cls := "BattleBench$Bench", name := "sitSet", desc := "(I)I" } : Jvm.MethodName)) ∈ lw_all := lw_g (lw_at lw_m2 113 rfl) rfl
theorem q407 : (Jvm.Cond.methodLink "BattleBench$Runner" (17 : Nat) ({ cls := "BattleBench$Bench", name := "stoodSet", desc := "(I)I" } : Jvm.MethodName)) ∈ lw_all := lw_g (lw_at lw_m2 114 rfl) rfl
theorem q408 : (Jvm.Cond.methodLink "BattleBench$Runner" (20 : Nat) ({ cls := "java/lang/Integer", name := "bitCount", desc := "(I)I" } : Jvm.MethodName)) ∈ lw_all := lw_g (lw_at lw_m2 115 rfl) rfl
theorem q414 : (Jvm.Cond.methodLink "BattleBench$Runner" (25 : Nat) ({ cls := "java/lang/Math", name := "max", desc := "(II)I" } : Jvm.MethodName)) ∈ lw_all := lw_g (lw_at lw_m2 121 rfl) rfl
theorem q1131 : (Jvm.Cond.castable "BattleBench$Runner" "BattleBench$Plain") ∈ lw_tbl := lw_at lw_m5 118 rfl

/-! BattleBench$Fault -/
set_option maxRecDepth 100000
def RX7 : String := "BattleBench$Fault"
def TX7 : u_T := fun k => match k with
  | 0 => ("java/lang/Throwable", "cause", "Ljava/lang/Throwable;", false)
  | 1 => ("java/lang/Throwable", "stackTrace", "[Ljava/lang/StackTraceElement;", false)
  | 2 => ("java/lang/Throwable", "suppressedExceptions", "Ljava/util/List;", false)
  | 3 => ("java/lang/Throwable", "detailMessage", "Ljava/lang/String;", false)
  | 4 => ("java/lang/Throwable", "backtrace", "Ljava/lang/Object;", false)
  | 5 => ("java/lang/Throwable", "depth", "I", false)
  | _ => ("BattleBench$Fault", "place", "I", false)
def tyX7 : Nat → FieldType := fun k => match k with
  | 0 => .object "java/lang/Throwable"
  | 1 => .array (.object "java/lang/StackTraceElement")
  | 2 => .object "java/util/List"
  | 3 => .object "java/lang/String"
  | 4 => .object "java/lang/Object"
  | 5 => .int
  | _ => .int
abbrev wsX70 : List Cond := u_ws RX7 TX7 7
theorem nmX7 : ∀ a, a < 7 → ∀ b, b < 7 → a ≠ b → (TX7 a).2.1 ≠ (TX7 b).2.1 := by decide +kernel
theorem tyX7_ok : ∀ k, k < 7 → parseFieldDescriptor (TX7 k).2.2.1 = some (tyX7 k) := by decide +kernel
abbrev cX7_init : ByteArray := prog_4_method_1_code
def yX7_init : MethodName := ⟨RX7, "<init>", "()V"⟩
def dkwX7_init_0 : List UInt8 := [42, 1, 1, 3, 3, 183, 0, 1, 177]
abbrev dktX7_init_0 : List UInt8 := dkwX7_init_0 ++ []
theorem dksX7_init_0 : cX7_init.data.toList.drop 0 = dktX7_init_0 := by decide +kernel
theorem dX7_init_0 : decode cX7_init 0 = .ok (.aload_n 0, 1) := dk_42 (dk_at dksX7_init_0 0 rfl rfl)
theorem dX7_init_1 : decode cX7_init 1 = .ok (.aconst_null, 1) := dk_1 (dk_at dksX7_init_0 1 rfl rfl)
theorem dX7_init_2 : decode cX7_init 2 = .ok (.aconst_null, 1) := dk_1 (dk_at dksX7_init_0 2 rfl rfl)
theorem dX7_init_3 : decode cX7_init 3 = .ok (.iconst 0, 1) := dk_3 (dk_at dksX7_init_0 3 rfl rfl)
theorem dX7_init_4 : decode cX7_init 4 = .ok (.iconst 0, 1) := dk_3 (dk_at dksX7_init_0 4 rfl rfl)
theorem dX7_init_5 : decode cX7_init 5 = .ok (.invokespecial 1, 3) := dk_183 0 1 (dk_at dksX7_init_0 5 rfl rfl)
theorem dX7_init_8 : decode cX7_init 8 = .ok (.return_, 1) := dk_177 (dk_at dksX7_init_0 8 rfl rfl)
theorem q63 : (Jvm.Cond.initialized "BattleBench$Fault") ∈ lw_all := lw_g (lw_at lw_m1 10 rfl) rfl
theorem q163 : (Jvm.Cond.instantiable "BattleBench$Fault" (7 : Nat)) ∈ lw_all := lw_g (lw_at lw_m1 110 rfl) rfl
theorem q164 : (Jvm.Cond.castable "BattleBench$Fault" "BattleBench$Fault") ∈ lw_tbl := lw_at lw_m1 111 rfl
theorem q169 : (Jvm.Cond.selects "BattleBench$Fault" ({ cls := "java/lang/Throwable", name := "fillInStackTrace", desc := "(I)Ljava/lang/Throwable;" } : Jvm.MethodName) ({ cls := "java/lang/Throwable", name := "fillInStackTrace", desc := "(I)Ljava/lang/Throwable;" } : Jvm.MethodName)) ∈ lw_all := lw_g (lw_at lw_m1 116 rfl) rfl
theorem q170 : (Jvm.Cond.selects "BattleBench$Fault" ({ cls := "java/lang/Throwable", name := "fillInStackTrace", desc := "()Ljava/lang/Throwable;" } : Jvm.MethodName) ({ cls := "java/lang/Throwable", name := "fillInStackTrace", desc := "()Ljava/lang/Throwable;" } : Jvm.MethodName)) ∈ lw_all := lw_g (lw_at lw_m1 117 rfl) rfl
theorem q171 : (Jvm.Cond.lays "BattleBench$Fault" "java/lang/Throwable" "cause" "Ljava/lang/Throwable;") ∈ lw_all := lw_g (lw_at lw_m1 118 rfl) rfl
theorem q173 : (Jvm.Cond.lays "BattleBench$Fault" "java/lang/Throwable" "stackTrace" "[Ljava/lang/StackTraceElement;") ∈ lw_all := lw_g (lw_at lw_m1 120 rfl) rfl
theorem q175 : (Jvm.Cond.lays "BattleBench$Fault" "java/lang/Throwable" "suppressedExceptions" "Ljava/util/List;") ∈ lw_all := lw_g (lw_at lw_m1 122 rfl) rfl
theorem q177 : (Jvm.Cond.lays "BattleBench$Fault" "java/lang/Throwable" "detailMessage" "Ljava/lang/String;") ∈ lw_all := lw_g (lw_at lw_m1 124 rfl) rfl
theorem q179 : (Jvm.Cond.lays "BattleBench$Fault" "java/lang/Throwable" "backtrace" "Ljava/lang/Object;") ∈ lw_all := lw_g (lw_at lw_m1 126 rfl) rfl
theorem q218 : (Jvm.Cond.instanceMethod ({ cls := "BattleBench$Fault", name := "<init>", desc := "()V" } : Jvm.MethodName)) ∈ lw_all := lw_g (lw_at lw_m1 165 rfl) rfl
theorem q219 : (Jvm.Cond.code ({ cls := "BattleBench$Fault", name := "<init>", desc := "()V" } : Jvm.MethodName) prog_4_method_1_code (1 : Nat) (Option.none : Option Jvm.ClassFile.FieldType)) ∈ lw_all := lw_g (lw_at lw_m1 166 rfl) rfl
theorem q220 : (Jvm.Cond.methodLink "BattleBench$Fault" (1 : Nat) ({ cls := "java/lang/Exception", name := "<init>", desc := "(Ljava/lang/String;Ljava/lang/Throwable;ZZ)V" } : Jvm.MethodName)) ∈ lw_all := lw_g (lw_at lw_m1 167 rfl) rfl
theorem q232 : (Jvm.Cond.lays "BattleBench$Fault" "BattleBench$Fault" "place" "I") ∈ lw_all := lw_g (lw_at lw_m1 179 rfl) rfl
theorem q233 : (Jvm.Cond.soleField "BattleBench$Fault" "place") ∈ lw_all := lw_g (lw_at lw_m1 180 rfl) rfl
theorem q238 : (Jvm.Cond.lays "BattleBench$Fault" "java/lang/Throwable" "depth" "I") ∈ lw_all := lw_g (lw_at lw_m1 185 rfl) rfl
theorem q241 : (Jvm.Cond.superclass "BattleBench$Fault" "java/lang/Exception") ∈ lw_all := lw_g (lw_at lw_m1 188 rfl) rfl
theorem in_X7 : ∀ w ∈ wsX70, w ∈ lw_all := lw_in wsX70 [171, 173, 175, 177, 179, 238, 232] (by decide +kernel) (by decide +kernel)

/-! BattleBench$Sheet -/
set_option maxRecDepth 100000
def RX8 : String := "BattleBench$Sheet"
def TX8 : u_T := fun k => match k with
  | _ => ("BattleBench$Sheet", "row", "Ljava/lang/Object;", false)
def tyX8 : Nat → FieldType := fun k => match k with
  | _ => .object "java/lang/Object"
abbrev wsX80 : List Cond := u_ws RX8 TX8 1
theorem nmX8 : ∀ a, a < 1 → ∀ b, b < 1 → a ≠ b → (TX8 a).2.1 ≠ (TX8 b).2.1 := by decide +kernel
theorem tyX8_ok : ∀ k, k < 1 → parseFieldDescriptor (TX8 k).2.2.1 = some (tyX8 k) := by decide +kernel
abbrev cX8_init : ByteArray := prog_9_method_1_code
def yX8_init : MethodName := ⟨RX8, "<init>", "()V"⟩
theorem dX8_init_0 : decode cX8_init 0 = .ok (.aload_n 0, 1) := by decide +kernel
theorem dX8_init_1 : decode cX8_init 1 = .ok (.invokespecial 1, 3) := by decide +kernel
theorem dX8_init_4 : decode cX8_init 4 = .ok (.return_, 1) := by decide +kernel
abbrev cX8_lane : ByteArray := prog_9_method_2_code
def yX8_lane : MethodName := ⟨RX8, "lane", "()I"⟩
def dkwX8_lane_1 : List UInt8 := [4, 167, 0, 18, 42, 180, 0, 7, 193, 0, 17, 153, 0, 7, 5, 167, 0, 4, 6, 172]
abbrev dktX8_lane_1 : List UInt8 := dkwX8_lane_1 ++ []
def dkwX8_lane_0 : List UInt8 := [42, 180, 0, 7, 193, 0, 13, 153, 0, 7, 3, 167, 0, 32, 42, 180, 0, 7, 193, 0, 15, 153, 0, 7]
abbrev dktX8_lane_0 : List UInt8 := dkwX8_lane_0 ++ dktX8_lane_1
theorem dksX8_lane_0 : cX8_lane.data.toList.drop 0 = dktX8_lane_0 := by decide +kernel
theorem dksX8_lane_1 : cX8_lane.data.toList.drop 24 = dktX8_lane_1 := dk_seg dksX8_lane_0 24 rfl rfl
theorem dX8_lane_0 : decode cX8_lane 0 = .ok (.aload_n 0, 1) := dk_42 (dk_at dksX8_lane_0 0 rfl rfl)
theorem dX8_lane_1 : decode cX8_lane 1 = .ok (.getfield 7, 3) := dk_180 0 7 (dk_at dksX8_lane_0 1 rfl rfl)
theorem dX8_lane_4 : decode cX8_lane 4 = .ok (.instanceof 13, 3) := dk_193 0 13 (dk_at dksX8_lane_0 4 rfl rfl)
theorem dX8_lane_7 : decode cX8_lane 7 = .ok (.ifCond .eq 7, 3) := dk_153 0 7 (dk_at dksX8_lane_0 7 rfl rfl)
theorem dX8_lane_10 : decode cX8_lane 10 = .ok (.iconst 0, 1) := dk_3 (dk_at dksX8_lane_0 10 rfl rfl)
theorem dX8_lane_11 : decode cX8_lane 11 = .ok (.goto 32, 3) := dk_167 0 32 (dk_at dksX8_lane_0 11 rfl rfl)
theorem dX8_lane_14 : decode cX8_lane 14 = .ok (.aload_n 0, 1) := dk_42 (dk_at dksX8_lane_0 14 rfl rfl)
theorem dX8_lane_15 : decode cX8_lane 15 = .ok (.getfield 7, 3) := dk_180 0 7 (dk_at dksX8_lane_0 15 rfl rfl)
theorem dX8_lane_18 : decode cX8_lane 18 = .ok (.instanceof 15, 3) := dk_193 0 15 (dk_at dksX8_lane_0 18 rfl rfl)
theorem dX8_lane_21 : decode cX8_lane 21 = .ok (.ifCond .eq 7, 3) := dk_153 0 7 (dk_at dksX8_lane_0 21 rfl rfl)
theorem dX8_lane_24 : decode cX8_lane 24 = .ok (.iconst 1, 1) := dk_4 (dk_at dksX8_lane_1 0 rfl rfl)
theorem dX8_lane_25 : decode cX8_lane 25 = .ok (.goto 18, 3) := dk_167 0 18 (dk_at dksX8_lane_1 1 rfl rfl)
theorem dX8_lane_28 : decode cX8_lane 28 = .ok (.aload_n 0, 1) := dk_42 (dk_at dksX8_lane_1 4 rfl rfl)
theorem dX8_lane_29 : decode cX8_lane 29 = .ok (.getfield 7, 3) := dk_180 0 7 (dk_at dksX8_lane_1 5 rfl rfl)
theorem dX8_lane_32 : decode cX8_lane 32 = .ok (.instanceof 17, 3) := dk_193 0 17 (dk_at dksX8_lane_1 8 rfl rfl)
theorem dX8_lane_35 : decode cX8_lane 35 = .ok (.ifCond .eq 7, 3) := dk_153 0 7 (dk_at dksX8_lane_1 11 rfl rfl)
theorem dX8_lane_38 : decode cX8_lane 38 = .ok (.iconst 2, 1) := dk_5 (dk_at dksX8_lane_1 14 rfl rfl)
theorem dX8_lane_39 : decode cX8_lane 39 = .ok (.goto 4, 3) := dk_167 0 4 (dk_at dksX8_lane_1 15 rfl rfl)
theorem dX8_lane_42 : decode cX8_lane 42 = .ok (.iconst 3, 1) := dk_6 (dk_at dksX8_lane_1 18 rfl rfl)
theorem dX8_lane_43 : decode cX8_lane 43 = .ok (.ireturn, 1) := dk_172 (dk_at dksX8_lane_1 19 rfl rfl)
abbrev cX8_size : ByteArray := prog_9_method_3_code
def yX8_size : MethodName := ⟨RX8, "size", "()I"⟩
def dkwX8_size_3 : List UInt8 := [172]
abbrev dktX8_size_3 : List UInt8 := dkwX8_size_3 ++ []
def dkwX8_size_2 : List UInt8 := [193, 0, 17, 153, 0, 13, 44, 192, 0, 17, 76, 43, 190, 167, 0, 11, 42, 180, 0, 7, 192, 0, 19, 190]
abbrev dktX8_size_2 : List UInt8 := dkwX8_size_2 ++ dktX8_size_3
def dkwX8_size_1 : List UInt8 := [77, 44, 193, 0, 15, 153, 0, 11, 44, 192, 0, 15, 76, 43, 190, 172, 42, 180, 0, 7, 77, 44]
abbrev dktX8_size_1 : List UInt8 := dkwX8_size_1 ++ dktX8_size_2
def dkwX8_size_0 : List UInt8 := [42, 180, 0, 7, 77, 44, 193, 0, 13, 153, 0, 11, 44, 192, 0, 13, 76, 43, 190, 172, 42, 180, 0, 7]
abbrev dktX8_size_0 : List UInt8 := dkwX8_size_0 ++ dktX8_size_1
theorem dksX8_size_0 : cX8_size.data.toList.drop 0 = dktX8_size_0 := by decide +kernel
theorem dksX8_size_1 : cX8_size.data.toList.drop 24 = dktX8_size_1 := dk_seg dksX8_size_0 24 rfl rfl
theorem dksX8_size_2 : cX8_size.data.toList.drop 46 = dktX8_size_2 := dk_seg dksX8_size_1 22 rfl rfl
theorem dksX8_size_3 : cX8_size.data.toList.drop 70 = dktX8_size_3 := dk_seg dksX8_size_2 24 rfl rfl
theorem dX8_size_0 : decode cX8_size 0 = .ok (.aload_n 0, 1) := dk_42 (dk_at dksX8_size_0 0 rfl rfl)
theorem dX8_size_1 : decode cX8_size 1 = .ok (.getfield 7, 3) := dk_180 0 7 (dk_at dksX8_size_0 1 rfl rfl)
theorem dX8_size_4 : decode cX8_size 4 = .ok (.astore_n 2, 1) := dk_77 (dk_at dksX8_size_0 4 rfl rfl)
theorem dX8_size_5 : decode cX8_size 5 = .ok (.aload_n 2, 1) := dk_44 (dk_at dksX8_size_0 5 rfl rfl)
theorem dX8_size_6 : decode cX8_size 6 = .ok (.instanceof 13, 3) := dk_193 0 13 (dk_at dksX8_size_0 6 rfl rfl)
theorem dX8_size_9 : decode cX8_size 9 = .ok (.ifCond .eq 11, 3) := dk_153 0 11 (dk_at dksX8_size_0 9 rfl rfl)
theorem dX8_size_12 : decode cX8_size 12 = .ok (.aload_n 2, 1) := dk_44 (dk_at dksX8_size_0 12 rfl rfl)
theorem dX8_size_13 : decode cX8_size 13 = .ok (.checkcast 13, 3) := dk_192 0 13 (dk_at dksX8_size_0 13 rfl rfl)
theorem dX8_size_16 : decode cX8_size 16 = .ok (.astore_n 1, 1) := dk_76 (dk_at dksX8_size_0 16 rfl rfl)
theorem dX8_size_17 : decode cX8_size 17 = .ok (.aload_n 1, 1) := dk_43 (dk_at dksX8_size_0 17 rfl rfl)
theorem dX8_size_18 : decode cX8_size 18 = .ok (.arraylength, 1) := dk_190 (dk_at dksX8_size_0 18 rfl rfl)
theorem dX8_size_19 : decode cX8_size 19 = .ok (.ireturn, 1) := dk_172 (dk_at dksX8_size_0 19 rfl rfl)
theorem dX8_size_20 : decode cX8_size 20 = .ok (.aload_n 0, 1) := dk_42 (dk_at dksX8_size_0 20 rfl rfl)
theorem dX8_size_21 : decode cX8_size 21 = .ok (.getfield 7, 3) := dk_180 0 7 (dk_at dksX8_size_0 21 rfl rfl)
theorem dX8_size_24 : decode cX8_size 24 = .ok (.astore_n 2, 1) := dk_77 (dk_at dksX8_size_1 0 rfl rfl)
theorem dX8_size_25 : decode cX8_size 25 = .ok (.aload_n 2, 1) := dk_44 (dk_at dksX8_size_1 1 rfl rfl)
theorem dX8_size_26 : decode cX8_size 26 = .ok (.instanceof 15, 3) := dk_193 0 15 (dk_at dksX8_size_1 2 rfl rfl)
theorem dX8_size_29 : decode cX8_size 29 = .ok (.ifCond .eq 11, 3) := dk_153 0 11 (dk_at dksX8_size_1 5 rfl rfl)
theorem dX8_size_32 : decode cX8_size 32 = .ok (.aload_n 2, 1) := dk_44 (dk_at dksX8_size_1 8 rfl rfl)
theorem dX8_size_33 : decode cX8_size 33 = .ok (.checkcast 15, 3) := dk_192 0 15 (dk_at dksX8_size_1 9 rfl rfl)
theorem dX8_size_36 : decode cX8_size 36 = .ok (.astore_n 1, 1) := dk_76 (dk_at dksX8_size_1 12 rfl rfl)
theorem dX8_size_37 : decode cX8_size 37 = .ok (.aload_n 1, 1) := dk_43 (dk_at dksX8_size_1 13 rfl rfl)
theorem dX8_size_38 : decode cX8_size 38 = .ok (.arraylength, 1) := dk_190 (dk_at dksX8_size_1 14 rfl rfl)
theorem dX8_size_39 : decode cX8_size 39 = .ok (.ireturn, 1) := dk_172 (dk_at dksX8_size_1 15 rfl rfl)
theorem dX8_size_40 : decode cX8_size 40 = .ok (.aload_n 0, 1) := dk_42 (dk_at dksX8_size_1 16 rfl rfl)
theorem dX8_size_41 : decode cX8_size 41 = .ok (.getfield 7, 3) := dk_180 0 7 (dk_at dksX8_size_1 17 rfl rfl)
theorem dX8_size_44 : decode cX8_size 44 = .ok (.astore_n 2, 1) := dk_77 (dk_at dksX8_size_1 20 rfl rfl)
theorem dX8_size_45 : decode cX8_size 45 = .ok (.aload_n 2, 1) := dk_44 (dk_at dksX8_size_1 21 rfl rfl)
theorem dX8_size_46 : decode cX8_size 46 = .ok (.instanceof 17, 3) := dk_193 0 17 (dk_at dksX8_size_2 0 rfl rfl)
theorem dX8_size_49 : decode cX8_size 49 = .ok (.ifCond .eq 13, 3) := dk_153 0 13 (dk_at dksX8_size_2 3 rfl rfl)
theorem dX8_size_52 : decode cX8_size 52 = .ok (.aload_n 2, 1) := dk_44 (dk_at dksX8_size_2 6 rfl rfl)
theorem dX8_size_53 : decode cX8_size 53 = .ok (.checkcast 17, 3) := dk_192 0 17 (dk_at dksX8_size_2 7 rfl rfl)
theorem dX8_size_56 : decode cX8_size 56 = .ok (.astore_n 1, 1) := dk_76 (dk_at dksX8_size_2 10 rfl rfl)
theorem dX8_size_57 : decode cX8_size 57 = .ok (.aload_n 1, 1) := dk_43 (dk_at dksX8_size_2 11 rfl rfl)
theorem dX8_size_58 : decode cX8_size 58 = .ok (.arraylength, 1) := dk_190 (dk_at dksX8_size_2 12 rfl rfl)
theorem dX8_size_59 : decode cX8_size 59 = .ok (.goto 11, 3) := dk_167 0 11 (dk_at dksX8_size_2 13 rfl rfl)
theorem dX8_size_62 : decode cX8_size 62 = .ok (.aload_n 0, 1) := dk_42 (dk_at dksX8_size_2 16 rfl rfl)
theorem dX8_size_63 : decode cX8_size 63 = .ok (.getfield 7, 3) := dk_180 0 7 (dk_at dksX8_size_2 17 rfl rfl)
theorem dX8_size_66 : decode cX8_size 66 = .ok (.checkcast 19, 3) := dk_192 0 19 (dk_at dksX8_size_2 20 rfl rfl)
theorem dX8_size_69 : decode cX8_size 69 = .ok (.arraylength, 1) := dk_190 (dk_at dksX8_size_2 23 rfl rfl)
theorem dX8_size_70 : decode cX8_size 70 = .ok (.ireturn, 1) := dk_172 (dk_at dksX8_size_3 0 rfl rfl)
abbrev cX8_get : ByteArray := prog_9_method_4_code
def yX8_get : MethodName := ⟨RX8, "get", "(I)J"⟩
def dkwX8_get_3 : List UInt8 := [180, 0, 7, 192, 0, 19, 27, 47, 173]
abbrev dktX8_get_3 : List UInt8 := dkwX8_get_3 ++ []
def dkwX8_get_2 : List UInt8 := [180, 0, 7, 78, 45, 193, 0, 17, 153, 0, 15, 45, 192, 0, 17, 77, 44, 27, 46, 133, 167, 0, 12, 42]
abbrev dktX8_get_2 : List UInt8 := dkwX8_get_2 ++ dktX8_get_3
def dkwX8_get_1 : List UInt8 := [180, 0, 7, 78, 45, 193, 0, 15, 153, 0, 13, 45, 192, 0, 15, 77, 44, 27, 53, 133, 173, 42]
abbrev dktX8_get_1 : List UInt8 := dkwX8_get_1 ++ dktX8_get_2
def dkwX8_get_0 : List UInt8 := [42, 180, 0, 7, 78, 45, 193, 0, 13, 153, 0, 13, 45, 192, 0, 13, 77, 44, 27, 51, 133, 173, 42]
abbrev dktX8_get_0 : List UInt8 := dkwX8_get_0 ++ dktX8_get_1
theorem dksX8_get_0 : cX8_get.data.toList.drop 0 = dktX8_get_0 := by decide +kernel
theorem dksX8_get_1 : cX8_get.data.toList.drop 23 = dktX8_get_1 := dk_seg dksX8_get_0 23 rfl rfl
theorem dksX8_get_2 : cX8_get.data.toList.drop 45 = dktX8_get_2 := dk_seg dksX8_get_1 22 rfl rfl
theorem dksX8_get_3 : cX8_get.data.toList.drop 69 = dktX8_get_3 := dk_seg dksX8_get_2 24 rfl rfl
theorem dX8_get_0 : decode cX8_get 0 = .ok (.aload_n 0, 1) := dk_42 (dk_at dksX8_get_0 0 rfl rfl)
theorem dX8_get_1 : decode cX8_get 1 = .ok (.getfield 7, 3) := dk_180 0 7 (dk_at dksX8_get_0 1 rfl rfl)
theorem dX8_get_4 : decode cX8_get 4 = .ok (.astore_n 3, 1) := dk_78 (dk_at dksX8_get_0 4 rfl rfl)
theorem dX8_get_5 : decode cX8_get 5 = .ok (.aload_n 3, 1) := dk_45 (dk_at dksX8_get_0 5 rfl rfl)
theorem dX8_get_6 : decode cX8_get 6 = .ok (.instanceof 13, 3) := dk_193 0 13 (dk_at dksX8_get_0 6 rfl rfl)
theorem dX8_get_9 : decode cX8_get 9 = .ok (.ifCond .eq 13, 3) := dk_153 0 13 (dk_at dksX8_get_0 9 rfl rfl)
theorem dX8_get_12 : decode cX8_get 12 = .ok (.aload_n 3, 1) := dk_45 (dk_at dksX8_get_0 12 rfl rfl)
theorem dX8_get_13 : decode cX8_get 13 = .ok (.checkcast 13, 3) := dk_192 0 13 (dk_at dksX8_get_0 13 rfl rfl)
theorem dX8_get_16 : decode cX8_get 16 = .ok (.astore_n 2, 1) := dk_77 (dk_at dksX8_get_0 16 rfl rfl)
theorem dX8_get_17 : decode cX8_get 17 = .ok (.aload_n 2, 1) := dk_44 (dk_at dksX8_get_0 17 rfl rfl)
theorem dX8_get_18 : decode cX8_get 18 = .ok (.iload_n 1, 1) := dk_27 (dk_at dksX8_get_0 18 rfl rfl)
theorem dX8_get_19 : decode cX8_get 19 = .ok (.baload, 1) := dk_51 (dk_at dksX8_get_0 19 rfl rfl)
theorem dX8_get_20 : decode cX8_get 20 = .ok (.i2l, 1) := dk_133 (dk_at dksX8_get_0 20 rfl rfl)
theorem dX8_get_21 : decode cX8_get 21 = .ok (.lreturn, 1) := dk_173 (dk_at dksX8_get_0 21 rfl rfl)
theorem dX8_get_22 : decode cX8_get 22 = .ok (.aload_n 0, 1) := dk_42 (dk_at dksX8_get_0 22 rfl rfl)
theorem dX8_get_23 : decode cX8_get 23 = .ok (.getfield 7, 3) := dk_180 0 7 (dk_at dksX8_get_1 0 rfl rfl)
theorem dX8_get_26 : decode cX8_get 26 = .ok (.astore_n 3, 1) := dk_78 (dk_at dksX8_get_1 3 rfl rfl)
theorem dX8_get_27 : decode cX8_get 27 = .ok (.aload_n 3, 1) := dk_45 (dk_at dksX8_get_1 4 rfl rfl)
theorem dX8_get_28 : decode cX8_get 28 = .ok (.instanceof 15, 3) := dk_193 0 15 (dk_at dksX8_get_1 5 rfl rfl)
theorem dX8_get_31 : decode cX8_get 31 = .ok (.ifCond .eq 13, 3) := dk_153 0 13 (dk_at dksX8_get_1 8 rfl rfl)
theorem dX8_get_34 : decode cX8_get 34 = .ok (.aload_n 3, 1) := dk_45 (dk_at dksX8_get_1 11 rfl rfl)
theorem dX8_get_35 : decode cX8_get 35 = .ok (.checkcast 15, 3) := dk_192 0 15 (dk_at dksX8_get_1 12 rfl rfl)
theorem dX8_get_38 : decode cX8_get 38 = .ok (.astore_n 2, 1) := dk_77 (dk_at dksX8_get_1 15 rfl rfl)
theorem dX8_get_39 : decode cX8_get 39 = .ok (.aload_n 2, 1) := dk_44 (dk_at dksX8_get_1 16 rfl rfl)
theorem dX8_get_40 : decode cX8_get 40 = .ok (.iload_n 1, 1) := dk_27 (dk_at dksX8_get_1 17 rfl rfl)
theorem dX8_get_41 : decode cX8_get 41 = .ok (.saload, 1) := dk_53 (dk_at dksX8_get_1 18 rfl rfl)
theorem dX8_get_42 : decode cX8_get 42 = .ok (.i2l, 1) := dk_133 (dk_at dksX8_get_1 19 rfl rfl)
theorem dX8_get_43 : decode cX8_get 43 = .ok (.lreturn, 1) := dk_173 (dk_at dksX8_get_1 20 rfl rfl)
theorem dX8_get_44 : decode cX8_get 44 = .ok (.aload_n 0, 1) := dk_42 (dk_at dksX8_get_1 21 rfl rfl)
theorem dX8_get_45 : decode cX8_get 45 = .ok (.getfield 7, 3) := dk_180 0 7 (dk_at dksX8_get_2 0 rfl rfl)
theorem dX8_get_48 : decode cX8_get 48 = .ok (.astore_n 3, 1) := dk_78 (dk_at dksX8_get_2 3 rfl rfl)
theorem dX8_get_49 : decode cX8_get 49 = .ok (.aload_n 3, 1) := dk_45 (dk_at dksX8_get_2 4 rfl rfl)
theorem dX8_get_50 : decode cX8_get 50 = .ok (.instanceof 17, 3) := dk_193 0 17 (dk_at dksX8_get_2 5 rfl rfl)
theorem dX8_get_53 : decode cX8_get 53 = .ok (.ifCond .eq 15, 3) := dk_153 0 15 (dk_at dksX8_get_2 8 rfl rfl)
theorem dX8_get_56 : decode cX8_get 56 = .ok (.aload_n 3, 1) := dk_45 (dk_at dksX8_get_2 11 rfl rfl)
theorem dX8_get_57 : decode cX8_get 57 = .ok (.checkcast 17, 3) := dk_192 0 17 (dk_at dksX8_get_2 12 rfl rfl)
theorem dX8_get_60 : decode cX8_get 60 = .ok (.astore_n 2, 1) := dk_77 (dk_at dksX8_get_2 15 rfl rfl)
theorem dX8_get_61 : decode cX8_get 61 = .ok (.aload_n 2, 1) := dk_44 (dk_at dksX8_get_2 16 rfl rfl)
theorem dX8_get_62 : decode cX8_get 62 = .ok (.iload_n 1, 1) := dk_27 (dk_at dksX8_get_2 17 rfl rfl)
theorem dX8_get_63 : decode cX8_get 63 = .ok (.iaload, 1) := dk_46 (dk_at dksX8_get_2 18 rfl rfl)
theorem dX8_get_64 : decode cX8_get 64 = .ok (.i2l, 1) := dk_133 (dk_at dksX8_get_2 19 rfl rfl)
theorem dX8_get_65 : decode cX8_get 65 = .ok (.goto 12, 3) := dk_167 0 12 (dk_at dksX8_get_2 20 rfl rfl)
theorem dX8_get_68 : decode cX8_get 68 = .ok (.aload_n 0, 1) := dk_42 (dk_at dksX8_get_2 23 rfl rfl)
theorem dX8_get_69 : decode cX8_get 69 = .ok (.getfield 7, 3) := dk_180 0 7 (dk_at dksX8_get_3 0 rfl rfl)
theorem dX8_get_72 : decode cX8_get 72 = .ok (.checkcast 19, 3) := dk_192 0 19 (dk_at dksX8_get_3 3 rfl rfl)
theorem dX8_get_75 : decode cX8_get 75 = .ok (.iload_n 1, 1) := dk_27 (dk_at dksX8_get_3 6 rfl rfl)
theorem dX8_get_76 : decode cX8_get 76 = .ok (.laload, 1) := dk_47 (dk_at dksX8_get_3 7 rfl rfl)
theorem dX8_get_77 : decode cX8_get 77 = .ok (.lreturn, 1) := dk_173 (dk_at dksX8_get_3 8 rfl rfl)
abbrev cX8_lay : ByteArray := prog_9_method_5_code
def yX8_lay : MethodName := ⟨RX8, "lay", "(IIJ)V"⟩
def dkwX8_lay_4 : List UInt8 := [192, 0, 19, 28, 33, 80, 177]
abbrev dktX8_lay_4 : List UInt8 := dkwX8_lay_4 ++ []
def dkwX8_lay_3 : List UInt8 := [136, 147, 86, 167, 0, 27, 42, 180, 0, 7, 192, 0, 17, 28, 33, 136, 79, 167, 0, 13, 42, 180, 0, 7]
abbrev dktX8_lay_3 : List UInt8 := dkwX8_lay_3 ++ dktX8_lay_4
def dkwX8_lay_2 : List UInt8 := [42, 180, 0, 7, 192, 0, 13, 28, 33, 136, 145, 84, 167, 0, 42, 42, 180, 0, 7, 192, 0, 15, 28, 33]
abbrev dktX8_lay_2 : List UInt8 := dkwX8_lay_2 ++ dktX8_lay_3
def dkwX8_lay_1 : List UInt8 := [170, 0, 0, 0, 0, 0, 71, 0, 0, 0, 0, 0, 0, 0, 2, 0, 0, 0, 27, 0, 0, 0, 42, 0, 0, 0, 57]
abbrev dktX8_lay_1 : List UInt8 := dkwX8_lay_1 ++ dktX8_lay_2
def dkwX8_lay_0 : List UInt8 := [27]
abbrev dktX8_lay_0 : List UInt8 := dkwX8_lay_0 ++ dktX8_lay_1
theorem dksX8_lay_0 : cX8_lay.data.toList.drop 0 = dktX8_lay_0 := by decide +kernel
theorem dksX8_lay_1 : cX8_lay.data.toList.drop 1 = dktX8_lay_1 := dk_seg dksX8_lay_0 1 rfl rfl
theorem dksX8_lay_2 : cX8_lay.data.toList.drop 28 = dktX8_lay_2 := dk_seg dksX8_lay_1 27 rfl rfl
theorem dksX8_lay_3 : cX8_lay.data.toList.drop 52 = dktX8_lay_3 := dk_seg dksX8_lay_2 24 rfl rfl
theorem dksX8_lay_4 : cX8_lay.data.toList.drop 76 = dktX8_lay_4 := dk_seg dksX8_lay_3 24 rfl rfl
theorem dX8_lay_0 : decode cX8_lay 0 = .ok (.iload_n 1, 1) := dk_27 (dk_at dksX8_lay_0 0 rfl rfl)
theorem dX8_lay_1 : decode cX8_lay 1 = .ok (.tableswitch 71 0 2 #[27, 42, 57], 27) := by decide +kernel
theorem dX8_lay_28 : decode cX8_lay 28 = .ok (.aload_n 0, 1) := dk_42 (dk_at dksX8_lay_2 0 rfl rfl)
theorem dX8_lay_29 : decode cX8_lay 29 = .ok (.getfield 7, 3) := dk_180 0 7 (dk_at dksX8_lay_2 1 rfl rfl)
theorem dX8_lay_32 : decode cX8_lay 32 = .ok (.checkcast 13, 3) := dk_192 0 13 (dk_at dksX8_lay_2 4 rfl rfl)
theorem dX8_lay_35 : decode cX8_lay 35 = .ok (.iload_n 2, 1) := dk_28 (dk_at dksX8_lay_2 7 rfl rfl)
theorem dX8_lay_36 : decode cX8_lay 36 = .ok (.lload_n 3, 1) := dk_33 (dk_at dksX8_lay_2 8 rfl rfl)
theorem dX8_lay_37 : decode cX8_lay 37 = .ok (.l2i, 1) := dk_136 (dk_at dksX8_lay_2 9 rfl rfl)
theorem dX8_lay_38 : decode cX8_lay 38 = .ok (.i2b, 1) := dk_145 (dk_at dksX8_lay_2 10 rfl rfl)
theorem dX8_lay_39 : decode cX8_lay 39 = .ok (.bastore, 1) := dk_84 (dk_at dksX8_lay_2 11 rfl rfl)
theorem dX8_lay_40 : decode cX8_lay 40 = .ok (.goto 42, 3) := dk_167 0 42 (dk_at dksX8_lay_2 12 rfl rfl)
theorem dX8_lay_43 : decode cX8_lay 43 = .ok (.aload_n 0, 1) := dk_42 (dk_at dksX8_lay_2 15 rfl rfl)
theorem dX8_lay_44 : decode cX8_lay 44 = .ok (.getfield 7, 3) := dk_180 0 7 (dk_at dksX8_lay_2 16 rfl rfl)
theorem dX8_lay_47 : decode cX8_lay 47 = .ok (.checkcast 15, 3) := dk_192 0 15 (dk_at dksX8_lay_2 19 rfl rfl)
theorem dX8_lay_50 : decode cX8_lay 50 = .ok (.iload_n 2, 1) := dk_28 (dk_at dksX8_lay_2 22 rfl rfl)
theorem dX8_lay_51 : decode cX8_lay 51 = .ok (.lload_n 3, 1) := dk_33 (dk_at dksX8_lay_2 23 rfl rfl)
theorem dX8_lay_52 : decode cX8_lay 52 = .ok (.l2i, 1) := dk_136 (dk_at dksX8_lay_3 0 rfl rfl)
theorem dX8_lay_53 : decode cX8_lay 53 = .ok (.i2s, 1) := dk_147 (dk_at dksX8_lay_3 1 rfl rfl)
theorem dX8_lay_54 : decode cX8_lay 54 = .ok (.sastore, 1) := dk_86 (dk_at dksX8_lay_3 2 rfl rfl)
theorem dX8_lay_55 : decode cX8_lay 55 = .ok (.goto 27, 3) := dk_167 0 27 (dk_at dksX8_lay_3 3 rfl rfl)
theorem dX8_lay_58 : decode cX8_lay 58 = .ok (.aload_n 0, 1) := dk_42 (dk_at dksX8_lay_3 6 rfl rfl)
theorem dX8_lay_59 : decode cX8_lay 59 = .ok (.getfield 7, 3) := dk_180 0 7 (dk_at dksX8_lay_3 7 rfl rfl)
theorem dX8_lay_62 : decode cX8_lay 62 = .ok (.checkcast 17, 3) := dk_192 0 17 (dk_at dksX8_lay_3 10 rfl rfl)
theorem dX8_lay_65 : decode cX8_lay 65 = .ok (.iload_n 2, 1) := dk_28 (dk_at dksX8_lay_3 13 rfl rfl)
theorem dX8_lay_66 : decode cX8_lay 66 = .ok (.lload_n 3, 1) := dk_33 (dk_at dksX8_lay_3 14 rfl rfl)
theorem dX8_lay_67 : decode cX8_lay 67 = .ok (.l2i, 1) := dk_136 (dk_at dksX8_lay_3 15 rfl rfl)
theorem dX8_lay_68 : decode cX8_lay 68 = .ok (.iastore, 1) := dk_79 (dk_at dksX8_lay_3 16 rfl rfl)
theorem dX8_lay_69 : decode cX8_lay 69 = .ok (.goto 13, 3) := dk_167 0 13 (dk_at dksX8_lay_3 17 rfl rfl)
theorem dX8_lay_72 : decode cX8_lay 72 = .ok (.aload_n 0, 1) := dk_42 (dk_at dksX8_lay_3 20 rfl rfl)
theorem dX8_lay_73 : decode cX8_lay 73 = .ok (.getfield 7, 3) := dk_180 0 7 (dk_at dksX8_lay_3 21 rfl rfl)
theorem dX8_lay_76 : decode cX8_lay 76 = .ok (.checkcast 19, 3) := dk_192 0 19 (dk_at dksX8_lay_4 0 rfl rfl)
theorem dX8_lay_79 : decode cX8_lay 79 = .ok (.iload_n 2, 1) := dk_28 (dk_at dksX8_lay_4 3 rfl rfl)
theorem dX8_lay_80 : decode cX8_lay 80 = .ok (.lload_n 3, 1) := dk_33 (dk_at dksX8_lay_4 4 rfl rfl)
theorem dX8_lay_81 : decode cX8_lay 81 = .ok (.lastore, 1) := dk_80 (dk_at dksX8_lay_4 5 rfl rfl)
theorem dX8_lay_82 : decode cX8_lay 82 = .ok (.return_, 1) := dk_177 (dk_at dksX8_lay_4 6 rfl rfl)
theorem q64 : (Jvm.Cond.initialized "BattleBench$Sheet") ∈ lw_all := lw_g (lw_at lw_m1 11 rfl) rfl
theorem q245 : (Jvm.Cond.instantiable "BattleBench$Sheet" (1 : Nat)) ∈ lw_all := lw_g (lw_at lw_m1 192 rfl) rfl
theorem q247 : (Jvm.Cond.instanceMethod ({ cls := "BattleBench$Sheet", name := "<init>", desc := "()V" } : Jvm.MethodName)) ∈ lw_all := lw_g (lw_at lw_m1 194 rfl) rfl
theorem q248 : (Jvm.Cond.code ({ cls := "BattleBench$Sheet", name := "<init>", desc := "()V" } : Jvm.MethodName) prog_9_method_1_code (1 : Nat) (Option.none : Option Jvm.ClassFile.FieldType)) ∈ lw_all := lw_g (lw_at lw_m1 195 rfl) rfl
theorem q249 : (Jvm.Cond.methodLink "BattleBench$Sheet" (1 : Nat) ({ cls := "java/lang/Object", name := "<init>", desc := "()V" } : Jvm.MethodName)) ∈ lw_all := lw_g (lw_at lw_m1 196 rfl) rfl
theorem q250 : (Jvm.Cond.fieldLink "BattleBench$Sheet" (7 : Nat) "BattleBench$Sheet" "row" "Ljava/lang/Object;") ∈ lw_all := lw_g (lw_at lw_m1 197 rfl) rfl
theorem q252 : (Jvm.Cond.lays "BattleBench$Sheet" "BattleBench$Sheet" "row" "Ljava/lang/Object;") ∈ lw_all := lw_g (lw_at lw_m1 199 rfl) rfl
theorem q253 : (Jvm.Cond.soleField "BattleBench$Sheet" "row") ∈ lw_all := lw_g (lw_at lw_m1 200 rfl) rfl
theorem q254 : (Jvm.Cond.superclass "BattleBench$Sheet" "java/lang/Object") ∈ lw_all := lw_g (lw_at lw_m1 201 rfl) rfl
theorem q658 : (Jvm.Cond.instanceMethod ({ cls := "BattleBench$Sheet", name := "lane", desc := "()I" } : Jvm.MethodName)) ∈ lw_all := lw_g (lw_at lw_m3 125 rfl) rfl
theorem q659 : (Jvm.Cond.selects "BattleBench$Sheet" ({ cls := "BattleBench$Sheet", name := "lane", desc := "()I" } : Jvm.MethodName) ({ cls := "BattleBench$Sheet", name := "lane", desc := "()I" } : Jvm.MethodName)) ∈ lw_all := lw_g (lw_at lw_m3 126 rfl) rfl
theorem q660 : (Jvm.Cond.code ({ cls := "BattleBench$Sheet", name := "lane", desc := "()I" } : Jvm.MethodName) prog_9_method_2_code (1 : Nat) (Option.some Jvm.ClassFile.FieldType.int)) ∈ lw_all := lw_g (lw_at lw_m3 127 rfl) rfl
theorem q661 : (Jvm.Cond.classLink "BattleBench$Sheet" (13 : Nat) "[B") ∈ lw_all := lw_g (lw_at lw_m3 128 rfl) rfl
theorem q662 : (Jvm.Cond.classLink "BattleBench$Sheet" (15 : Nat) "[S") ∈ lw_all := lw_g (lw_at lw_m3 129 rfl) rfl
theorem q663 : (Jvm.Cond.classLink "BattleBench$Sheet" (17 : Nat) "[I") ∈ lw_all := lw_g (lw_at lw_m3 130 rfl) rfl
theorem q665 : (Jvm.Cond.instanceMethod ({ cls := "BattleBench$Sheet", name := "size", desc := "()I" } : Jvm.MethodName)) ∈ lw_all := lw_g (lw_at lw_m3 132 rfl) rfl
theorem q666 : (Jvm.Cond.selects "BattleBench$Sheet" ({ cls := "BattleBench$Sheet", name := "size", desc := "()I" } : Jvm.MethodName) ({ cls := "BattleBench$Sheet", name := "size", desc := "()I" } : Jvm.MethodName)) ∈ lw_all := lw_g (lw_at lw_m3 133 rfl) rfl
theorem q667 : (Jvm.Cond.code ({ cls := "BattleBench$Sheet", name := "size", desc := "()I" } : Jvm.MethodName) prog_9_method_3_code (3 : Nat) (Option.some Jvm.ClassFile.FieldType.int)) ∈ lw_all := lw_g (lw_at lw_m3 134 rfl) rfl
theorem q668 : (Jvm.Cond.classLink "BattleBench$Sheet" (19 : Nat) "[J") ∈ lw_all := lw_g (lw_at lw_m3 135 rfl) rfl
theorem q678 : (Jvm.Cond.instanceMethod ({ cls := "BattleBench$Sheet", name := "get", desc := "(I)J" } : Jvm.MethodName)) ∈ lw_all := lw_g (lw_at lw_m3 145 rfl) rfl
theorem q679 : (Jvm.Cond.selects "BattleBench$Sheet" ({ cls := "BattleBench$Sheet", name := "get", desc := "(I)J" } : Jvm.MethodName) ({ cls := "BattleBench$Sheet", name := "get", desc := "(I)J" } : Jvm.MethodName)) ∈ lw_all := lw_g (lw_at lw_m3 146 rfl) rfl
theorem q680 : (Jvm.Cond.code ({ cls := "BattleBench$Sheet", name := "get", desc := "(I)J" } : Jvm.MethodName) prog_9_method_4_code (4 : Nat) (Option.some Jvm.ClassFile.FieldType.long)) ∈ lw_all := lw_g (lw_at lw_m3 147 rfl) rfl
theorem q687 : (Jvm.Cond.instanceMethod ({ cls := "BattleBench$Sheet", name := "lay", desc := "(IIJ)V" } : Jvm.MethodName)) ∈ lw_all := lw_g (lw_at lw_m3 154 rfl) rfl
theorem q688 : (Jvm.Cond.selects "BattleBench$Sheet" ({ cls := "BattleBench$Sheet", name := "lay", desc := "(IIJ)V" } : Jvm.MethodName) ({ cls := "BattleBench$Sheet", name := "lay", desc := "(IIJ)V" } : Jvm.MethodName)) ∈ lw_all := lw_g (lw_at lw_m3 155 rfl) rfl
theorem q689 : (Jvm.Cond.code ({ cls := "BattleBench$Sheet", name := "lay", desc := "(IIJ)V" } : Jvm.MethodName) prog_9_method_5_code (5 : Nat) (Option.none : Option Jvm.ClassFile.FieldType)) ∈ lw_all := lw_g (lw_at lw_m3 156 rfl) rfl
theorem in_X8 : ∀ w ∈ wsX80, w ∈ lw_all := lw_in wsX80 [252] (by decide +kernel) (by decide +kernel)

theorem q53 : (Jvm.Cond.initialized "BattleBenchLaw") ∈ lw_all := lw_g (lw_at lw_m1 0 rfl) rfl
set_option maxRecDepth 100000
theorem q77 : (Jvm.Cond.classLink "BattleBenchLaw" (7 : Nat) "BattleBench") ∈ lw_all := lw_g (lw_at lw_m1 24 rfl) rfl
theorem q79 : (Jvm.Cond.methodLink "BattleBenchLaw" (9 : Nat) ({ cls := "BattleBench", name := "<init>", desc := "()V" } : Jvm.MethodName)) ∈ lw_all := lw_g (lw_at lw_m1 26 rfl) rfl
theorem q311 : (Jvm.Cond.methodLink "BattleBenchLaw" (13 : Nat) ({ cls := "BattleBench", name := "man", desc := "(II)I" } : Jvm.MethodName)) ∈ lw_all := lw_g (lw_at lw_m2 18 rfl) rfl
theorem q332 : (Jvm.Cond.methodLink "BattleBenchLaw" (18 : Nat) ({ cls := "BattleBench", name := "stood", desc := "(III)I" } : Jvm.MethodName)) ∈ lw_all := lw_g (lw_at lw_m2 39 rfl) rfl
theorem q346 : (Jvm.Cond.methodLink "BattleBenchLaw" (23 : Nat) ({ cls := "BattleBench", name := "of", desc := "(II)I" } : Jvm.MethodName)) ∈ lw_all := lw_g (lw_at lw_m2 53 rfl) rfl
theorem q416 : (Jvm.Cond.methodLink "BattleBenchLaw" (27 : Nat) ({ cls := "BattleBench", name := "seat", desc := "(I)I" } : Jvm.MethodName)) ∈ lw_all := lw_g (lw_at lw_m2 123 rfl) rfl
theorem q420 : (Jvm.Cond.methodLink "BattleBenchLaw" (32 : Nat) ({ cls := "BattleBench", name := "type", desc := "(I)I" } : Jvm.MethodName)) ∈ lw_all := lw_g (lw_at lw_m2 127 rfl) rfl
theorem q426 : (Jvm.Cond.methodLink "BattleBenchLaw" (36 : Nat) ({ cls := "BattleBench", name := "read", desc := "()I" } : Jvm.MethodName)) ∈ lw_all := lw_g (lw_at lw_m2 133 rfl) rfl
theorem q482 : (Jvm.Cond.methodLink "BattleBenchLaw" (41 : Nat) ({ cls := "BattleBench", name := "count", desc := "(I)I" } : Jvm.MethodName)) ∈ lw_all := lw_g (lw_at lw_m2 189 rfl) rfl
theorem q499 : (Jvm.Cond.methodLink "BattleBenchLaw" (45 : Nat) ({ cls := "BattleBench", name := "years", desc := "(I)I" } : Jvm.MethodName)) ∈ lw_all := lw_g (lw_at lw_m2 206 rfl) rfl
theorem q523 : (Jvm.Cond.methodLink "BattleBenchLaw" (49 : Nat) ({ cls := "BattleBench", name := "move", desc := "(I)I" } : Jvm.MethodName)) ∈ lw_all := lw_g (lw_at lw_m2 230 rfl) rfl
theorem q531 : (Jvm.Cond.methodLink "BattleBenchLaw" (53 : Nat) ({ cls := "BattleBench", name := "nurse", desc := "(II)I" } : Jvm.MethodName)) ∈ lw_all := lw_g (lw_at lw_m2 238 rfl) rfl
theorem q536 : (Jvm.Cond.methodLink "BattleBenchLaw" (57 : Nat) ({ cls := "BattleBench", name := "drift", desc := "(I)I" } : Jvm.MethodName)) ∈ lw_all := lw_g (lw_at lw_m3 3 rfl) rfl
theorem q544 : (Jvm.Cond.methodLink "BattleBenchLaw" (61 : Nat) ({ cls := "BattleBench", name := "undo", desc := "()I" } : Jvm.MethodName)) ∈ lw_all := lw_g (lw_at lw_m3 11 rfl) rfl
theorem q548 : (Jvm.Cond.methodLink "BattleBenchLaw" (65 : Nat) ({ cls := "BattleBench", name := "seed", desc := "(I)I" } : Jvm.MethodName)) ∈ lw_all := lw_g (lw_at lw_m3 15 rfl) rfl
theorem q552 : (Jvm.Cond.methodLink "BattleBenchLaw" (69 : Nat) ({ cls := "BattleBench", name := "ahead", desc := "(II)I" } : Jvm.MethodName)) ∈ lw_all := lw_g (lw_at lw_m3 19 rfl) rfl
theorem q563 : (Jvm.Cond.methodLink "BattleBenchLaw" (73 : Nat) ({ cls := "BattleBench", name := "then", desc := "(I)I" } : Jvm.MethodName)) ∈ lw_all := lw_g (lw_at lw_m3 30 rfl) rfl
theorem q567 : (Jvm.Cond.methodLink "BattleBenchLaw" (77 : Nat) ({ cls := "BattleBench", name := "ends", desc := "(I)I" } : Jvm.MethodName)) ∈ lw_all := lw_g (lw_at lw_m3 34 rfl) rfl
theorem q571 : (Jvm.Cond.methodLink "BattleBenchLaw" (81 : Nat) ({ cls := "BattleBench", name := "lonely", desc := "()I" } : Jvm.MethodName)) ∈ lw_all := lw_g (lw_at lw_m3 38 rfl) rfl
theorem q575 : (Jvm.Cond.methodLink "BattleBenchLaw" (85 : Nat) ({ cls := "BattleBench", name := "close", desc := "(II)I" } : Jvm.MethodName)) ∈ lw_all := lw_g (lw_at lw_m3 42 rfl) rfl
theorem q582 : (Jvm.Cond.methodLink "BattleBenchLaw" (89 : Nat) ({ cls := "BattleBench", name := "swaps", desc := "(I)I" } : Jvm.MethodName)) ∈ lw_all := lw_g (lw_at lw_m3 49 rfl) rfl
theorem q590 : (Jvm.Cond.methodLink "BattleBenchLaw" (93 : Nat) ({ cls := "BattleBench", name := "stay", desc := "(II)I" } : Jvm.MethodName)) ∈ lw_all := lw_g (lw_at lw_m3 57 rfl) rfl
theorem q602 : (Jvm.Cond.methodLink "BattleBenchLaw" (97 : Nat) ({ cls := "BattleBench", name := "ways", desc := "()I" } : Jvm.MethodName)) ∈ lw_all := lw_g (lw_at lw_m3 69 rfl) rfl
theorem q617 : (Jvm.Cond.methodLink "BattleBenchLaw" (101 : Nat) ({ cls := "BattleBench", name := "ease", desc := "(I)I" } : Jvm.MethodName)) ∈ lw_all := lw_g (lw_at lw_m3 84 rfl) rfl
theorem q625 : (Jvm.Cond.methodLink "BattleBenchLaw" (105 : Nat) ({ cls := "BattleBench", name := "left", desc := "(II)I" } : Jvm.MethodName)) ∈ lw_all := lw_g (lw_at lw_m3 92 rfl) rfl
theorem q630 : (Jvm.Cond.methodLink "BattleBenchLaw" (109 : Nat) ({ cls := "BattleBench", name := "winter", desc := "(III)I" } : Jvm.MethodName)) ∈ lw_all := lw_g (lw_at lw_m3 97 rfl) rfl
theorem q636 : (Jvm.Cond.methodLink "BattleBenchLaw" (113 : Nat) ({ cls := "BattleBench", name := "image", desc := "()I" } : Jvm.MethodName)) ∈ lw_all := lw_g (lw_at lw_m3 103 rfl) rfl
theorem q640 : (Jvm.Cond.methodLink "BattleBenchLaw" (117 : Nat) ({ cls := "BattleBench", name := "restore", desc := "()I" } : Jvm.MethodName)) ∈ lw_all := lw_g (lw_at lw_m3 107 rfl) rfl
theorem q644 : (Jvm.Cond.methodLink "BattleBenchLaw" (121 : Nat) ({ cls := "BattleBench", name := "failed", desc := "(IIIIII)I" } : Jvm.MethodName)) ∈ lw_all := lw_g (lw_at lw_m3 111 rfl) rfl
theorem q681 : (Jvm.Cond.methodLink "BattleBenchLaw" (126 : Nat) ({ cls := "BattleBench", name := "film", desc := "(IIIII)I" } : Jvm.MethodName)) ∈ lw_all := lw_g (lw_at lw_m3 148 rfl) rfl
theorem q690 : (Jvm.Cond.methodLink "BattleBenchLaw" (131 : Nat) ({ cls := "BattleBench", name := "sheet", desc := "(III)I" } : Jvm.MethodName)) ∈ lw_all := lw_g (lw_at lw_m3 157 rfl) rfl
theorem q726 : (Jvm.Cond.methodLink "BattleBenchLaw" (135 : Nat) ({ cls := "BattleBench", name := "drop", desc := "(I)I" } : Jvm.MethodName)) ∈ lw_all := lw_g (lw_at lw_m3 193 rfl) rfl
theorem q730 : (Jvm.Cond.methodLink "BattleBenchLaw" (141 : Nat) ({ cls := "BattleBench", name := "item", desc := "(IIIJ)I" } : Jvm.MethodName)) ∈ lw_all := lw_g (lw_at lw_m3 197 rfl) rfl
theorem q792 : (Jvm.Cond.methodLink "BattleBenchLaw" (146 : Nat) ({ cls := "BattleBench", name := "copy", desc := "(IIIII)I" } : Jvm.MethodName)) ∈ lw_all := lw_g (lw_at lw_m4 19 rfl) rfl
theorem q811 : (Jvm.Cond.classLink "BattleBenchLaw" (10 : Nat) "BattleBenchModel") ∈ lw_all := lw_g (lw_at lw_m4 38 rfl) rfl
theorem q813 : (Jvm.Cond.methodLink "BattleBenchLaw" (12 : Nat) ({ cls := "BattleBenchModel", name := "<init>", desc := "()V" } : Jvm.MethodName)) ∈ lw_all := lw_g (lw_at lw_m4 40 rfl) rfl
theorem q860 : (Jvm.Cond.methodLink "BattleBenchLaw" (17 : Nat) ({ cls := "BattleBenchModel", name := "man", desc := "(II)I" } : Jvm.MethodName)) ∈ lw_all := lw_g (lw_at lw_m4 87 rfl) rfl
theorem q871 : (Jvm.Cond.methodLink "BattleBenchLaw" (22 : Nat) ({ cls := "BattleBenchModel", name := "stood", desc := "(III)I" } : Jvm.MethodName)) ∈ lw_all := lw_g (lw_at lw_m4 98 rfl) rfl
theorem q879 : (Jvm.Cond.methodLink "BattleBenchLaw" (26 : Nat) ({ cls := "BattleBenchModel", name := "of", desc := "(II)I" } : Jvm.MethodName)) ∈ lw_all := lw_g (lw_at lw_m4 106 rfl) rfl
theorem q910 : (Jvm.Cond.methodLink "BattleBenchLaw" (31 : Nat) ({ cls := "BattleBenchModel", name := "seat", desc := "(I)I" } : Jvm.MethodName)) ∈ lw_all := lw_g (lw_at lw_m4 137 rfl) rfl
theorem q914 : (Jvm.Cond.methodLink "BattleBenchLaw" (35 : Nat) ({ cls := "BattleBenchModel", name := "type", desc := "(I)I" } : Jvm.MethodName)) ∈ lw_all := lw_g (lw_at lw_m4 141 rfl) rfl
theorem q918 : (Jvm.Cond.methodLink "BattleBenchLaw" (40 : Nat) ({ cls := "BattleBenchModel", name := "read", desc := "()I" } : Jvm.MethodName)) ∈ lw_all := lw_g (lw_at lw_m4 145 rfl) rfl
theorem q948 : (Jvm.Cond.methodLink "BattleBenchLaw" (44 : Nat) ({ cls := "BattleBenchModel", name := "count", desc := "(I)I" } : Jvm.MethodName)) ∈ lw_all := lw_g (lw_at lw_m4 175 rfl) rfl
theorem q964 : (Jvm.Cond.methodLink "BattleBenchLaw" (48 : Nat) ({ cls := "BattleBenchModel", name := "years", desc := "(I)I" } : Jvm.MethodName)) ∈ lw_all := lw_g (lw_at lw_m4 191 rfl) rfl
theorem q979 : (Jvm.Cond.methodLink "BattleBenchLaw" (52 : Nat) ({ cls := "BattleBenchModel", name := "move", desc := "(I)I" } : Jvm.MethodName)) ∈ lw_all := lw_g (lw_at lw_m4 206 rfl) rfl
theorem q987 : (Jvm.Cond.methodLink "BattleBenchLaw" (56 : Nat) ({ cls := "BattleBenchModel", name := "nurse", desc := "(II)I" } : Jvm.MethodName)) ∈ lw_all := lw_g (lw_at lw_m4 214 rfl) rfl
theorem q991 : (Jvm.Cond.methodLink "BattleBenchLaw" (60 : Nat) ({ cls := "BattleBenchModel", name := "drift", desc := "(I)I" } : Jvm.MethodName)) ∈ lw_all := lw_g (lw_at lw_m4 218 rfl) rfl
theorem q998 : (Jvm.Cond.methodLink "BattleBenchLaw" (64 : Nat) ({ cls := "BattleBenchModel", name := "undo", desc := "()I" } : Jvm.MethodName)) ∈ lw_all := lw_g (lw_at lw_m4 225 rfl) rfl
theorem q1002 : (Jvm.Cond.methodLink "BattleBenchLaw" (68 : Nat) ({ cls := "BattleBenchModel", name := "seed", desc := "(I)I" } : Jvm.MethodName)) ∈ lw_all := lw_g (lw_at lw_m4 229 rfl) rfl
theorem q1006 : (Jvm.Cond.methodLink "BattleBenchLaw" (72 : Nat) ({ cls := "BattleBenchModel", name := "ahead", desc := "(II)I" } : Jvm.MethodName)) ∈ lw_all := lw_g (lw_at lw_m4 233 rfl) rfl
theorem q1018 : (Jvm.Cond.methodLink "BattleBenchLaw" (76 : Nat) ({ cls := "BattleBenchModel", name := "then", desc := "(I)I" } : Jvm.MethodName)) ∈ lw_all := lw_g (lw_at lw_m5 5 rfl) rfl
theorem q1022 : (Jvm.Cond.methodLink "BattleBenchLaw" (80 : Nat) ({ cls := "BattleBenchModel", name := "ends", desc := "(I)I" } : Jvm.MethodName)) ∈ lw_all := lw_g (lw_at lw_m5 9 rfl) rfl
theorem q1026 : (Jvm.Cond.methodLink "BattleBenchLaw" (84 : Nat) ({ cls := "BattleBenchModel", name := "lonely", desc := "()I" } : Jvm.MethodName)) ∈ lw_all := lw_g (lw_at lw_m5 13 rfl) rfl
theorem q1030 : (Jvm.Cond.methodLink "BattleBenchLaw" (88 : Nat) ({ cls := "BattleBenchModel", name := "close", desc := "(II)I" } : Jvm.MethodName)) ∈ lw_all := lw_g (lw_at lw_m5 17 rfl) rfl
theorem q1034 : (Jvm.Cond.methodLink "BattleBenchLaw" (92 : Nat) ({ cls := "BattleBenchModel", name := "swaps", desc := "(I)I" } : Jvm.MethodName)) ∈ lw_all := lw_g (lw_at lw_m5 21 rfl) rfl
theorem q1042 : (Jvm.Cond.methodLink "BattleBenchLaw" (96 : Nat) ({ cls := "BattleBenchModel", name := "stay", desc := "(II)I" } : Jvm.MethodName)) ∈ lw_all := lw_g (lw_at lw_m5 29 rfl) rfl
theorem q1053 : (Jvm.Cond.methodLink "BattleBenchLaw" (100 : Nat) ({ cls := "BattleBenchModel", name := "ways", desc := "()I" } : Jvm.MethodName)) ∈ lw_all := lw_g (lw_at lw_m5 40 rfl) rfl
theorem q1065 : (Jvm.Cond.methodLink "BattleBenchLaw" (104 : Nat) ({ cls := "BattleBenchModel", name := "ease", desc := "(I)I" } : Jvm.MethodName)) ∈ lw_all := lw_g (lw_at lw_m5 52 rfl) rfl
theorem q1069 : (Jvm.Cond.methodLink "BattleBenchLaw" (108 : Nat) ({ cls := "BattleBenchModel", name := "left", desc := "(II)I" } : Jvm.MethodName)) ∈ lw_all := lw_g (lw_at lw_m5 56 rfl) rfl
theorem q1073 : (Jvm.Cond.methodLink "BattleBenchLaw" (112 : Nat) ({ cls := "BattleBenchModel", name := "winter", desc := "(III)I" } : Jvm.MethodName)) ∈ lw_all := lw_g (lw_at lw_m5 60 rfl) rfl
theorem q1077 : (Jvm.Cond.methodLink "BattleBenchLaw" (116 : Nat) ({ cls := "BattleBenchModel", name := "image", desc := "()I" } : Jvm.MethodName)) ∈ lw_all := lw_g (lw_at lw_m5 64 rfl) rfl
theorem q1081 : (Jvm.Cond.methodLink "BattleBenchLaw" (120 : Nat) ({ cls := "BattleBenchModel", name := "restore", desc := "()I" } : Jvm.MethodName)) ∈ lw_all := lw_g (lw_at lw_m5 68 rfl) rfl
theorem q1085 : (Jvm.Cond.methodLink "BattleBenchLaw" (125 : Nat) ({ cls := "BattleBenchModel", name := "failed", desc := "(IIIIII)I" } : Jvm.MethodName)) ∈ lw_all := lw_g (lw_at lw_m5 72 rfl) rfl
theorem q1100 : (Jvm.Cond.methodLink "BattleBenchLaw" (130 : Nat) ({ cls := "BattleBenchModel", name := "film", desc := "(IIIII)I" } : Jvm.MethodName)) ∈ lw_all := lw_g (lw_at lw_m5 87 rfl) rfl
theorem q1104 : (Jvm.Cond.methodLink "BattleBenchLaw" (134 : Nat) ({ cls := "BattleBenchModel", name := "sheet", desc := "(III)I" } : Jvm.MethodName)) ∈ lw_all := lw_g (lw_at lw_m5 91 rfl) rfl
theorem q1108 : (Jvm.Cond.methodLink "BattleBenchLaw" (138 : Nat) ({ cls := "BattleBenchModel", name := "drop", desc := "(I)I" } : Jvm.MethodName)) ∈ lw_all := lw_g (lw_at lw_m5 95 rfl) rfl
theorem q1112 : (Jvm.Cond.methodLink "BattleBenchLaw" (145 : Nat) ({ cls := "BattleBenchModel", name := "item", desc := "(IIIJ)I" } : Jvm.MethodName)) ∈ lw_all := lw_g (lw_at lw_m5 99 rfl) rfl
theorem q1119 : (Jvm.Cond.methodLink "BattleBenchLaw" (149 : Nat) ({ cls := "BattleBenchModel", name := "copy", desc := "(IIIII)I" } : Jvm.MethodName)) ∈ lw_all := lw_g (lw_at lw_m5 106 rfl) rfl
theorem q1123 : (Jvm.Cond.constantLong "BattleBenchLaw" (139 : Nat) (4294967295 : Int64)) ∈ lw_all := lw_g (lw_at lw_m5 110 rfl) rfl

theorem q68 : (Jvm.Cond.initialized "java/lang/System") ∈ lw_all := lw_g (lw_at lw_m1 15 rfl) rfl
set_option maxRecDepth 100000
theorem q439 : (Jvm.Cond.static ({ cls := "java/lang/System", name := "arraycopy", desc := "(Ljava/lang/Object;ILjava/lang/Object;II)V" } : Jvm.MethodName)) ∈ lw_all := lw_g (lw_at lw_m2 146 rfl) rfl
theorem q440 : (Jvm.Cond.native ({ cls := "java/lang/System", name := "arraycopy", desc := "(Ljava/lang/Object;ILjava/lang/Object;II)V" } : Jvm.MethodName)) ∈ lw_all := lw_g (lw_at lw_m2 147 rfl) rfl

theorem q86 : (Jvm.Cond.arrayOver (Jvm.ClassFile.FieldType.object "BattleBench$Plain")) ∈ lw_tbl := lw_at lw_m1 33 rfl
set_option maxRecDepth 100000
theorem q161 : (Jvm.Cond.arrayClass Jvm.ClassFile.FieldType.int) ∈ lw_all := lw_g (lw_at lw_m1 108 rfl) rfl
theorem q242 : (Jvm.Cond.arrayOver (Jvm.ClassFile.FieldType.object "BattleBench$Bench")) ∈ lw_tbl := lw_at lw_m1 189 rfl
theorem q244 : (Jvm.Cond.arrayOver (Jvm.ClassFile.FieldType.object "BattleBench$Sheet")) ∈ lw_tbl := lw_at lw_m1 191 rfl
theorem q255 : (Jvm.Cond.arrayClass Jvm.ClassFile.FieldType.char) ∈ lw_all := lw_g (lw_at lw_m1 202 rfl) rfl
theorem q719 : (Jvm.Cond.arrayClass Jvm.ClassFile.FieldType.byte) ∈ lw_all := lw_g (lw_at lw_m3 186 rfl) rfl
theorem q724 : (Jvm.Cond.arrayClass Jvm.ClassFile.FieldType.short) ∈ lw_all := lw_g (lw_at lw_m3 191 rfl) rfl
theorem q725 : (Jvm.Cond.arrayClass Jvm.ClassFile.FieldType.long) ∈ lw_all := lw_g (lw_at lw_m3 192 rfl) rfl
