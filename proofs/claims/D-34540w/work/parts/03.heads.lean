/-! DECODE ROWS BY BYTES: one lemma an opcode; a method's code is cut into short pieces once, and a row reads its own piece alone. -/
set_option maxRecDepth 100000
/-- the code has just these bytes from pc on -/
def DkAt (code : ByteArray) (pc : Nat) (bs : List UInt8) : Prop := ∀ (j : Nat) (b : UInt8), bs[j]? = some b → code.data.toList[pc + j]? = some b
/-- the piece W has the bytes bs from its place j on -/
def dkIn (W : List UInt8) (j : Nat) (bs : List UInt8) : Bool := decide ((W.drop j).take bs.length = bs)
theorem dk_seg {l W T : List UInt8} {o o2 : Nat} (h : l.drop o = W ++ T) (n : Nat) (hn : W.length = n) (ho : o + n = o2) : l.drop o2 = T := by
  subst ho
  rw [← List.drop_drop, h, List.drop_left' hn]
theorem dk_at {code : ByteArray} {W T bs : List UInt8} {o pc : Nat} (h : code.data.toList.drop o = W ++ T) (j : Nat) (hp : o + j = pc) (hw : dkIn W j bs = true) : DkAt code pc bs := by
  subst hp
  intro i b e
  have h1 := of_decide_eq_true hw
  have h2 : i < bs.length := (List.getElem?_eq_some_iff.mp e).1
  have h3 : W[j + i]? = some b := by
    rw [← h1, List.getElem?_take, if_pos h2, List.getElem?_drop] at e
    exact e
  have h4 : j + i < W.length := (List.getElem?_eq_some_iff.mp h3).1
  have h5 : (code.data.toList.drop o)[j + i]? = some b := by
    rw [h, List.getElem?_append_left h4]
    exact h3
  rw [List.getElem?_drop, ← Nat.add_assoc] at h5
  exact h5
theorem dk_u1 {A : ByteArray} {p : Nat} {b : UInt8} (h : A.data.toList[p]? = some b) : (Reader.u1 : Reader DecodeError Nat) A p = .ok (b.toNat, p + 1) := by
  obtain ⟨h1, h2⟩ := List.getElem?_eq_some_iff.mp h
  have h3 : p < A.size := by simpa using h1
  have h4 : A[p]'h3 = b := h2
  have e : (Reader.u1 : Reader DecodeError Nat) A p = (if h : p < A.size then .ok (A[p].toNat, p + 1) else .error (HasTruncated.truncated p)) := by
    show (do if h : p < A.size then do set (p + 1); Pure.pure A[p].toNat else MonadExcept.throw (HasTruncated.truncated p) : Reader DecodeError Nat) A p = _
    by_cases hi : p < A.size
    · rw [dif_pos hi, dif_pos hi]; rfl
    · rw [dif_neg hi, dif_neg hi]; rfl
  rw [e, dif_pos h3, h4]
theorem dk_bind {α β : Type} {r : Reader DecodeError α} {f : α → Reader DecodeError β} {A : ByteArray} {p s : Nat} {a : α} (h : r A p = .ok (a, s)) : (r >>= f) A p = f a A s := by
  show (do let (a, s) ← r A p; f a A s : Except DecodeError (β × Nat)) = _
  rw [h]
  rfl
theorem dk_map {α β : Type} {r : Reader DecodeError α} {g : α → β} {A : ByteArray} {p s : Nat} {a : α} (h : r A p = .ok (a, s)) : (g <$> r) A p = .ok (g a, s) := by
  show (do let (a, s) ← r A p; .ok (g a, s) : Except DecodeError (β × Nat)) = _
  rw [h]
  rfl
theorem dk_u2 {A : ByteArray} {p : Nat} {a b : UInt8} (h : A.data.toList[p]? = some a) (h2 : A.data.toList[p + 1]? = some b) : (Reader.u2 : Reader DecodeError Nat) A p = .ok (a.toNat * 256 + b.toNat, p + 2) := by
  show (Reader.u1 >>= fun hi => Reader.u1 >>= fun lo => Pure.pure (hi * 256 + lo) : Reader DecodeError Nat) A p = _
  rw [dk_bind (dk_u1 h), dk_bind (dk_u1 h2)]
  rfl
theorem dk_of {code : ByteArray} {pc n : Nat} {i : Instr} (h : Decoder.instr pc code pc = .ok (i, pc + n)) : decode code pc = .ok (i, n) := by
  have e : decode code pc = (match Decoder.instr pc code pc with | .error x => .error x | .ok (j, s) => .ok (j, s - pc)) := by
    show (do let (j, s) ← Decoder.instr pc code pc; Pure.pure (j, s - pc) : Except DecodeError (Instr × Nat)) = _
    cases Decoder.instr pc code pc <;> rfl
  rw [e, h]
  show Except.ok (i, pc + n - pc) = _
  rw [Nat.add_sub_cancel_left]
theorem dk_1 {code : ByteArray} {pc : Nat} (h : DkAt code pc [1]) : decode code pc = .ok (.aconst_null, 1) := dk_of ((dk_bind (dk_u1 (h 0 _ rfl))).trans rfl)
theorem dk_2 {code : ByteArray} {pc : Nat} (h : DkAt code pc [2]) : decode code pc = .ok (.iconst (-1), 1) := dk_of ((dk_bind (dk_u1 (h 0 _ rfl))).trans rfl)
theorem dk_3 {code : ByteArray} {pc : Nat} (h : DkAt code pc [3]) : decode code pc = .ok (.iconst 0, 1) := dk_of ((dk_bind (dk_u1 (h 0 _ rfl))).trans rfl)
theorem dk_4 {code : ByteArray} {pc : Nat} (h : DkAt code pc [4]) : decode code pc = .ok (.iconst 1, 1) := dk_of ((dk_bind (dk_u1 (h 0 _ rfl))).trans rfl)
theorem dk_5 {code : ByteArray} {pc : Nat} (h : DkAt code pc [5]) : decode code pc = .ok (.iconst 2, 1) := dk_of ((dk_bind (dk_u1 (h 0 _ rfl))).trans rfl)
theorem dk_6 {code : ByteArray} {pc : Nat} (h : DkAt code pc [6]) : decode code pc = .ok (.iconst 3, 1) := dk_of ((dk_bind (dk_u1 (h 0 _ rfl))).trans rfl)
theorem dk_7 {code : ByteArray} {pc : Nat} (h : DkAt code pc [7]) : decode code pc = .ok (.iconst 4, 1) := dk_of ((dk_bind (dk_u1 (h 0 _ rfl))).trans rfl)
theorem dk_8 {code : ByteArray} {pc : Nat} (h : DkAt code pc [8]) : decode code pc = .ok (.iconst 5, 1) := dk_of ((dk_bind (dk_u1 (h 0 _ rfl))).trans rfl)
theorem dk_9 {code : ByteArray} {pc : Nat} (h : DkAt code pc [9]) : decode code pc = .ok (.lconst 0, 1) := dk_of ((dk_bind (dk_u1 (h 0 _ rfl))).trans rfl)
theorem dk_10 {code : ByteArray} {pc : Nat} (h : DkAt code pc [10]) : decode code pc = .ok (.lconst 1, 1) := dk_of ((dk_bind (dk_u1 (h 0 _ rfl))).trans rfl)
theorem dk_16 {code : ByteArray} {pc : Nat} (a : UInt8) (h : DkAt code pc [16, a]) : decode code pc = .ok (.bipush (Reader.signed 8 a.toNat), 2) := dk_of ((dk_bind (dk_u1 (h 0 _ rfl))).trans ((dk_bind (dk_map (dk_u1 (h 1 _ rfl)))).trans rfl))
theorem dk_17 {code : ByteArray} {pc : Nat} (a b : UInt8) (h : DkAt code pc [17, a, b]) : decode code pc = .ok (.sipush (Reader.signed 16 (a.toNat * 256 + b.toNat)), 3) := dk_of ((dk_bind (dk_u1 (h 0 _ rfl))).trans ((dk_bind (dk_map (dk_u2 (h 1 _ rfl) (h 2 _ rfl)))).trans rfl))
theorem dk_18 {code : ByteArray} {pc : Nat} (a : UInt8) (h : DkAt code pc [18, a]) : decode code pc = .ok (.ldc a.toNat, 2) := dk_of ((dk_bind (dk_u1 (h 0 _ rfl))).trans ((dk_bind (dk_u1 (h 1 _ rfl))).trans rfl))
theorem dk_19 {code : ByteArray} {pc : Nat} (a b : UInt8) (h : DkAt code pc [19, a, b]) : decode code pc = .ok (.ldc_w (a.toNat * 256 + b.toNat), 3) := dk_of ((dk_bind (dk_u1 (h 0 _ rfl))).trans ((dk_bind (dk_u2 (h 1 _ rfl) (h 2 _ rfl))).trans rfl))
theorem dk_20 {code : ByteArray} {pc : Nat} (a b : UInt8) (h : DkAt code pc [20, a, b]) : decode code pc = .ok (.ldc2_w (a.toNat * 256 + b.toNat), 3) := dk_of ((dk_bind (dk_u1 (h 0 _ rfl))).trans ((dk_bind (dk_u2 (h 1 _ rfl) (h 2 _ rfl))).trans rfl))
theorem dk_21 {code : ByteArray} {pc : Nat} (a : UInt8) (h : DkAt code pc [21, a]) : decode code pc = .ok (.iload a.toNat, 2) := dk_of ((dk_bind (dk_u1 (h 0 _ rfl))).trans ((dk_bind (dk_u1 (h 1 _ rfl))).trans rfl))
theorem dk_22 {code : ByteArray} {pc : Nat} (a : UInt8) (h : DkAt code pc [22, a]) : decode code pc = .ok (.lload a.toNat, 2) := dk_of ((dk_bind (dk_u1 (h 0 _ rfl))).trans ((dk_bind (dk_u1 (h 1 _ rfl))).trans rfl))
theorem dk_25 {code : ByteArray} {pc : Nat} (a : UInt8) (h : DkAt code pc [25, a]) : decode code pc = .ok (.aload a.toNat, 2) := dk_of ((dk_bind (dk_u1 (h 0 _ rfl))).trans ((dk_bind (dk_u1 (h 1 _ rfl))).trans rfl))
theorem dk_26 {code : ByteArray} {pc : Nat} (h : DkAt code pc [26]) : decode code pc = .ok (.iload_n 0, 1) := dk_of ((dk_bind (dk_u1 (h 0 _ rfl))).trans rfl)
theorem dk_27 {code : ByteArray} {pc : Nat} (h : DkAt code pc [27]) : decode code pc = .ok (.iload_n 1, 1) := dk_of ((dk_bind (dk_u1 (h 0 _ rfl))).trans rfl)
theorem dk_28 {code : ByteArray} {pc : Nat} (h : DkAt code pc [28]) : decode code pc = .ok (.iload_n 2, 1) := dk_of ((dk_bind (dk_u1 (h 0 _ rfl))).trans rfl)
theorem dk_29 {code : ByteArray} {pc : Nat} (h : DkAt code pc [29]) : decode code pc = .ok (.iload_n 3, 1) := dk_of ((dk_bind (dk_u1 (h 0 _ rfl))).trans rfl)
theorem dk_30 {code : ByteArray} {pc : Nat} (h : DkAt code pc [30]) : decode code pc = .ok (.lload_n 0, 1) := dk_of ((dk_bind (dk_u1 (h 0 _ rfl))).trans rfl)
theorem dk_31 {code : ByteArray} {pc : Nat} (h : DkAt code pc [31]) : decode code pc = .ok (.lload_n 1, 1) := dk_of ((dk_bind (dk_u1 (h 0 _ rfl))).trans rfl)
theorem dk_32 {code : ByteArray} {pc : Nat} (h : DkAt code pc [32]) : decode code pc = .ok (.lload_n 2, 1) := dk_of ((dk_bind (dk_u1 (h 0 _ rfl))).trans rfl)
theorem dk_33 {code : ByteArray} {pc : Nat} (h : DkAt code pc [33]) : decode code pc = .ok (.lload_n 3, 1) := dk_of ((dk_bind (dk_u1 (h 0 _ rfl))).trans rfl)
theorem dk_42 {code : ByteArray} {pc : Nat} (h : DkAt code pc [42]) : decode code pc = .ok (.aload_n 0, 1) := dk_of ((dk_bind (dk_u1 (h 0 _ rfl))).trans rfl)
theorem dk_43 {code : ByteArray} {pc : Nat} (h : DkAt code pc [43]) : decode code pc = .ok (.aload_n 1, 1) := dk_of ((dk_bind (dk_u1 (h 0 _ rfl))).trans rfl)
theorem dk_44 {code : ByteArray} {pc : Nat} (h : DkAt code pc [44]) : decode code pc = .ok (.aload_n 2, 1) := dk_of ((dk_bind (dk_u1 (h 0 _ rfl))).trans rfl)
theorem dk_45 {code : ByteArray} {pc : Nat} (h : DkAt code pc [45]) : decode code pc = .ok (.aload_n 3, 1) := dk_of ((dk_bind (dk_u1 (h 0 _ rfl))).trans rfl)
theorem dk_46 {code : ByteArray} {pc : Nat} (h : DkAt code pc [46]) : decode code pc = .ok (.iaload, 1) := dk_of ((dk_bind (dk_u1 (h 0 _ rfl))).trans rfl)
theorem dk_47 {code : ByteArray} {pc : Nat} (h : DkAt code pc [47]) : decode code pc = .ok (.laload, 1) := dk_of ((dk_bind (dk_u1 (h 0 _ rfl))).trans rfl)
theorem dk_50 {code : ByteArray} {pc : Nat} (h : DkAt code pc [50]) : decode code pc = .ok (.aaload, 1) := dk_of ((dk_bind (dk_u1 (h 0 _ rfl))).trans rfl)
theorem dk_51 {code : ByteArray} {pc : Nat} (h : DkAt code pc [51]) : decode code pc = .ok (.baload, 1) := dk_of ((dk_bind (dk_u1 (h 0 _ rfl))).trans rfl)
theorem dk_54 {code : ByteArray} {pc : Nat} (a : UInt8) (h : DkAt code pc [54, a]) : decode code pc = .ok (.istore a.toNat, 2) := dk_of ((dk_bind (dk_u1 (h 0 _ rfl))).trans ((dk_bind (dk_u1 (h 1 _ rfl))).trans rfl))
theorem dk_55 {code : ByteArray} {pc : Nat} (a : UInt8) (h : DkAt code pc [55, a]) : decode code pc = .ok (.lstore a.toNat, 2) := dk_of ((dk_bind (dk_u1 (h 0 _ rfl))).trans ((dk_bind (dk_u1 (h 1 _ rfl))).trans rfl))
theorem dk_58 {code : ByteArray} {pc : Nat} (a : UInt8) (h : DkAt code pc [58, a]) : decode code pc = .ok (.astore a.toNat, 2) := dk_of ((dk_bind (dk_u1 (h 0 _ rfl))).trans ((dk_bind (dk_u1 (h 1 _ rfl))).trans rfl))
theorem dk_59 {code : ByteArray} {pc : Nat} (h : DkAt code pc [59]) : decode code pc = .ok (.istore_n 0, 1) := dk_of ((dk_bind (dk_u1 (h 0 _ rfl))).trans rfl)
theorem dk_60 {code : ByteArray} {pc : Nat} (h : DkAt code pc [60]) : decode code pc = .ok (.istore_n 1, 1) := dk_of ((dk_bind (dk_u1 (h 0 _ rfl))).trans rfl)
theorem dk_61 {code : ByteArray} {pc : Nat} (h : DkAt code pc [61]) : decode code pc = .ok (.istore_n 2, 1) := dk_of ((dk_bind (dk_u1 (h 0 _ rfl))).trans rfl)
theorem dk_62 {code : ByteArray} {pc : Nat} (h : DkAt code pc [62]) : decode code pc = .ok (.istore_n 3, 1) := dk_of ((dk_bind (dk_u1 (h 0 _ rfl))).trans rfl)
theorem dk_63 {code : ByteArray} {pc : Nat} (h : DkAt code pc [63]) : decode code pc = .ok (.lstore_n 0, 1) := dk_of ((dk_bind (dk_u1 (h 0 _ rfl))).trans rfl)
theorem dk_64 {code : ByteArray} {pc : Nat} (h : DkAt code pc [64]) : decode code pc = .ok (.lstore_n 1, 1) := dk_of ((dk_bind (dk_u1 (h 0 _ rfl))).trans rfl)
theorem dk_65 {code : ByteArray} {pc : Nat} (h : DkAt code pc [65]) : decode code pc = .ok (.lstore_n 2, 1) := dk_of ((dk_bind (dk_u1 (h 0 _ rfl))).trans rfl)
theorem dk_66 {code : ByteArray} {pc : Nat} (h : DkAt code pc [66]) : decode code pc = .ok (.lstore_n 3, 1) := dk_of ((dk_bind (dk_u1 (h 0 _ rfl))).trans rfl)
theorem dk_76 {code : ByteArray} {pc : Nat} (h : DkAt code pc [76]) : decode code pc = .ok (.astore_n 1, 1) := dk_of ((dk_bind (dk_u1 (h 0 _ rfl))).trans rfl)
theorem dk_77 {code : ByteArray} {pc : Nat} (h : DkAt code pc [77]) : decode code pc = .ok (.astore_n 2, 1) := dk_of ((dk_bind (dk_u1 (h 0 _ rfl))).trans rfl)
theorem dk_78 {code : ByteArray} {pc : Nat} (h : DkAt code pc [78]) : decode code pc = .ok (.astore_n 3, 1) := dk_of ((dk_bind (dk_u1 (h 0 _ rfl))).trans rfl)
theorem dk_79 {code : ByteArray} {pc : Nat} (h : DkAt code pc [79]) : decode code pc = .ok (.iastore, 1) := dk_of ((dk_bind (dk_u1 (h 0 _ rfl))).trans rfl)
theorem dk_80 {code : ByteArray} {pc : Nat} (h : DkAt code pc [80]) : decode code pc = .ok (.lastore, 1) := dk_of ((dk_bind (dk_u1 (h 0 _ rfl))).trans rfl)
theorem dk_83 {code : ByteArray} {pc : Nat} (h : DkAt code pc [83]) : decode code pc = .ok (.aastore, 1) := dk_of ((dk_bind (dk_u1 (h 0 _ rfl))).trans rfl)
theorem dk_84 {code : ByteArray} {pc : Nat} (h : DkAt code pc [84]) : decode code pc = .ok (.bastore, 1) := dk_of ((dk_bind (dk_u1 (h 0 _ rfl))).trans rfl)
theorem dk_87 {code : ByteArray} {pc : Nat} (h : DkAt code pc [87]) : decode code pc = .ok (.pop, 1) := dk_of ((dk_bind (dk_u1 (h 0 _ rfl))).trans rfl)
theorem dk_89 {code : ByteArray} {pc : Nat} (h : DkAt code pc [89]) : decode code pc = .ok (.dup, 1) := dk_of ((dk_bind (dk_u1 (h 0 _ rfl))).trans rfl)
theorem dk_90 {code : ByteArray} {pc : Nat} (h : DkAt code pc [90]) : decode code pc = .ok (.dup_x1, 1) := dk_of ((dk_bind (dk_u1 (h 0 _ rfl))).trans rfl)
theorem dk_92 {code : ByteArray} {pc : Nat} (h : DkAt code pc [92]) : decode code pc = .ok (.dup2, 1) := dk_of ((dk_bind (dk_u1 (h 0 _ rfl))).trans rfl)
theorem dk_96 {code : ByteArray} {pc : Nat} (h : DkAt code pc [96]) : decode code pc = .ok (.iadd, 1) := dk_of ((dk_bind (dk_u1 (h 0 _ rfl))).trans rfl)
theorem dk_97 {code : ByteArray} {pc : Nat} (h : DkAt code pc [97]) : decode code pc = .ok (.ladd, 1) := dk_of ((dk_bind (dk_u1 (h 0 _ rfl))).trans rfl)
theorem dk_100 {code : ByteArray} {pc : Nat} (h : DkAt code pc [100]) : decode code pc = .ok (.isub, 1) := dk_of ((dk_bind (dk_u1 (h 0 _ rfl))).trans rfl)
theorem dk_101 {code : ByteArray} {pc : Nat} (h : DkAt code pc [101]) : decode code pc = .ok (.lsub, 1) := dk_of ((dk_bind (dk_u1 (h 0 _ rfl))).trans rfl)
theorem dk_104 {code : ByteArray} {pc : Nat} (h : DkAt code pc [104]) : decode code pc = .ok (.imul, 1) := dk_of ((dk_bind (dk_u1 (h 0 _ rfl))).trans rfl)
theorem dk_108 {code : ByteArray} {pc : Nat} (h : DkAt code pc [108]) : decode code pc = .ok (.idiv, 1) := dk_of ((dk_bind (dk_u1 (h 0 _ rfl))).trans rfl)
theorem dk_112 {code : ByteArray} {pc : Nat} (h : DkAt code pc [112]) : decode code pc = .ok (.irem, 1) := dk_of ((dk_bind (dk_u1 (h 0 _ rfl))).trans rfl)
theorem dk_116 {code : ByteArray} {pc : Nat} (h : DkAt code pc [116]) : decode code pc = .ok (.ineg, 1) := dk_of ((dk_bind (dk_u1 (h 0 _ rfl))).trans rfl)
theorem dk_120 {code : ByteArray} {pc : Nat} (h : DkAt code pc [120]) : decode code pc = .ok (.ishl, 1) := dk_of ((dk_bind (dk_u1 (h 0 _ rfl))).trans rfl)
theorem dk_121 {code : ByteArray} {pc : Nat} (h : DkAt code pc [121]) : decode code pc = .ok (.lshl, 1) := dk_of ((dk_bind (dk_u1 (h 0 _ rfl))).trans rfl)
theorem dk_122 {code : ByteArray} {pc : Nat} (h : DkAt code pc [122]) : decode code pc = .ok (.ishr, 1) := dk_of ((dk_bind (dk_u1 (h 0 _ rfl))).trans rfl)
theorem dk_123 {code : ByteArray} {pc : Nat} (h : DkAt code pc [123]) : decode code pc = .ok (.lshr, 1) := dk_of ((dk_bind (dk_u1 (h 0 _ rfl))).trans rfl)
theorem dk_124 {code : ByteArray} {pc : Nat} (h : DkAt code pc [124]) : decode code pc = .ok (.iushr, 1) := dk_of ((dk_bind (dk_u1 (h 0 _ rfl))).trans rfl)
theorem dk_125 {code : ByteArray} {pc : Nat} (h : DkAt code pc [125]) : decode code pc = .ok (.lushr, 1) := dk_of ((dk_bind (dk_u1 (h 0 _ rfl))).trans rfl)
theorem dk_126 {code : ByteArray} {pc : Nat} (h : DkAt code pc [126]) : decode code pc = .ok (.iand, 1) := dk_of ((dk_bind (dk_u1 (h 0 _ rfl))).trans rfl)
theorem dk_127 {code : ByteArray} {pc : Nat} (h : DkAt code pc [127]) : decode code pc = .ok (.land, 1) := dk_of ((dk_bind (dk_u1 (h 0 _ rfl))).trans rfl)
theorem dk_128 {code : ByteArray} {pc : Nat} (h : DkAt code pc [128]) : decode code pc = .ok (.ior, 1) := dk_of ((dk_bind (dk_u1 (h 0 _ rfl))).trans rfl)
theorem dk_129 {code : ByteArray} {pc : Nat} (h : DkAt code pc [129]) : decode code pc = .ok (.lor, 1) := dk_of ((dk_bind (dk_u1 (h 0 _ rfl))).trans rfl)
theorem dk_130 {code : ByteArray} {pc : Nat} (h : DkAt code pc [130]) : decode code pc = .ok (.ixor, 1) := dk_of ((dk_bind (dk_u1 (h 0 _ rfl))).trans rfl)
theorem dk_131 {code : ByteArray} {pc : Nat} (h : DkAt code pc [131]) : decode code pc = .ok (.lxor, 1) := dk_of ((dk_bind (dk_u1 (h 0 _ rfl))).trans rfl)
theorem dk_132 {code : ByteArray} {pc : Nat} (a b : UInt8) (h : DkAt code pc [132, a, b]) : decode code pc = .ok (.iinc a.toNat (Reader.signed 8 b.toNat), 3) := dk_of ((dk_bind (dk_u1 (h 0 _ rfl))).trans ((dk_bind (dk_u1 (h 1 _ rfl))).trans ((dk_bind (dk_map (dk_u1 (h 2 _ rfl)))).trans rfl)))
theorem dk_133 {code : ByteArray} {pc : Nat} (h : DkAt code pc [133]) : decode code pc = .ok (.i2l, 1) := dk_of ((dk_bind (dk_u1 (h 0 _ rfl))).trans rfl)
theorem dk_136 {code : ByteArray} {pc : Nat} (h : DkAt code pc [136]) : decode code pc = .ok (.l2i, 1) := dk_of ((dk_bind (dk_u1 (h 0 _ rfl))).trans rfl)
theorem dk_145 {code : ByteArray} {pc : Nat} (h : DkAt code pc [145]) : decode code pc = .ok (.i2b, 1) := dk_of ((dk_bind (dk_u1 (h 0 _ rfl))).trans rfl)
theorem dk_146 {code : ByteArray} {pc : Nat} (h : DkAt code pc [146]) : decode code pc = .ok (.i2c, 1) := dk_of ((dk_bind (dk_u1 (h 0 _ rfl))).trans rfl)
theorem dk_148 {code : ByteArray} {pc : Nat} (h : DkAt code pc [148]) : decode code pc = .ok (.lcmp, 1) := dk_of ((dk_bind (dk_u1 (h 0 _ rfl))).trans rfl)
theorem dk_153 {code : ByteArray} {pc : Nat} (a b : UInt8) (h : DkAt code pc [153, a, b]) : decode code pc = .ok (.ifCond .eq (Reader.signed 16 (a.toNat * 256 + b.toNat)), 3) := dk_of ((dk_bind (dk_u1 (h 0 _ rfl))).trans ((dk_bind (dk_map (dk_u2 (h 1 _ rfl) (h 2 _ rfl)))).trans rfl))
theorem dk_154 {code : ByteArray} {pc : Nat} (a b : UInt8) (h : DkAt code pc [154, a, b]) : decode code pc = .ok (.ifCond .ne (Reader.signed 16 (a.toNat * 256 + b.toNat)), 3) := dk_of ((dk_bind (dk_u1 (h 0 _ rfl))).trans ((dk_bind (dk_map (dk_u2 (h 1 _ rfl) (h 2 _ rfl)))).trans rfl))
theorem dk_155 {code : ByteArray} {pc : Nat} (a b : UInt8) (h : DkAt code pc [155, a, b]) : decode code pc = .ok (.ifCond .lt (Reader.signed 16 (a.toNat * 256 + b.toNat)), 3) := dk_of ((dk_bind (dk_u1 (h 0 _ rfl))).trans ((dk_bind (dk_map (dk_u2 (h 1 _ rfl) (h 2 _ rfl)))).trans rfl))
theorem dk_156 {code : ByteArray} {pc : Nat} (a b : UInt8) (h : DkAt code pc [156, a, b]) : decode code pc = .ok (.ifCond .ge (Reader.signed 16 (a.toNat * 256 + b.toNat)), 3) := dk_of ((dk_bind (dk_u1 (h 0 _ rfl))).trans ((dk_bind (dk_map (dk_u2 (h 1 _ rfl) (h 2 _ rfl)))).trans rfl))
theorem dk_157 {code : ByteArray} {pc : Nat} (a b : UInt8) (h : DkAt code pc [157, a, b]) : decode code pc = .ok (.ifCond .gt (Reader.signed 16 (a.toNat * 256 + b.toNat)), 3) := dk_of ((dk_bind (dk_u1 (h 0 _ rfl))).trans ((dk_bind (dk_map (dk_u2 (h 1 _ rfl) (h 2 _ rfl)))).trans rfl))
theorem dk_158 {code : ByteArray} {pc : Nat} (a b : UInt8) (h : DkAt code pc [158, a, b]) : decode code pc = .ok (.ifCond .le (Reader.signed 16 (a.toNat * 256 + b.toNat)), 3) := dk_of ((dk_bind (dk_u1 (h 0 _ rfl))).trans ((dk_bind (dk_map (dk_u2 (h 1 _ rfl) (h 2 _ rfl)))).trans rfl))
theorem dk_159 {code : ByteArray} {pc : Nat} (a b : UInt8) (h : DkAt code pc [159, a, b]) : decode code pc = .ok (.if_icmp .eq (Reader.signed 16 (a.toNat * 256 + b.toNat)), 3) := dk_of ((dk_bind (dk_u1 (h 0 _ rfl))).trans ((dk_bind (dk_map (dk_u2 (h 1 _ rfl) (h 2 _ rfl)))).trans rfl))
theorem dk_160 {code : ByteArray} {pc : Nat} (a b : UInt8) (h : DkAt code pc [160, a, b]) : decode code pc = .ok (.if_icmp .ne (Reader.signed 16 (a.toNat * 256 + b.toNat)), 3) := dk_of ((dk_bind (dk_u1 (h 0 _ rfl))).trans ((dk_bind (dk_map (dk_u2 (h 1 _ rfl) (h 2 _ rfl)))).trans rfl))
theorem dk_161 {code : ByteArray} {pc : Nat} (a b : UInt8) (h : DkAt code pc [161, a, b]) : decode code pc = .ok (.if_icmp .lt (Reader.signed 16 (a.toNat * 256 + b.toNat)), 3) := dk_of ((dk_bind (dk_u1 (h 0 _ rfl))).trans ((dk_bind (dk_map (dk_u2 (h 1 _ rfl) (h 2 _ rfl)))).trans rfl))
theorem dk_162 {code : ByteArray} {pc : Nat} (a b : UInt8) (h : DkAt code pc [162, a, b]) : decode code pc = .ok (.if_icmp .ge (Reader.signed 16 (a.toNat * 256 + b.toNat)), 3) := dk_of ((dk_bind (dk_u1 (h 0 _ rfl))).trans ((dk_bind (dk_map (dk_u2 (h 1 _ rfl) (h 2 _ rfl)))).trans rfl))
theorem dk_163 {code : ByteArray} {pc : Nat} (a b : UInt8) (h : DkAt code pc [163, a, b]) : decode code pc = .ok (.if_icmp .gt (Reader.signed 16 (a.toNat * 256 + b.toNat)), 3) := dk_of ((dk_bind (dk_u1 (h 0 _ rfl))).trans ((dk_bind (dk_map (dk_u2 (h 1 _ rfl) (h 2 _ rfl)))).trans rfl))
theorem dk_164 {code : ByteArray} {pc : Nat} (a b : UInt8) (h : DkAt code pc [164, a, b]) : decode code pc = .ok (.if_icmp .le (Reader.signed 16 (a.toNat * 256 + b.toNat)), 3) := dk_of ((dk_bind (dk_u1 (h 0 _ rfl))).trans ((dk_bind (dk_map (dk_u2 (h 1 _ rfl) (h 2 _ rfl)))).trans rfl))
theorem dk_165 {code : ByteArray} {pc : Nat} (a b : UInt8) (h : DkAt code pc [165, a, b]) : decode code pc = .ok (.if_acmp .eq (Reader.signed 16 (a.toNat * 256 + b.toNat)), 3) := dk_of ((dk_bind (dk_u1 (h 0 _ rfl))).trans ((dk_bind (dk_map (dk_u2 (h 1 _ rfl) (h 2 _ rfl)))).trans rfl))
theorem dk_166 {code : ByteArray} {pc : Nat} (a b : UInt8) (h : DkAt code pc [166, a, b]) : decode code pc = .ok (.if_acmp .ne (Reader.signed 16 (a.toNat * 256 + b.toNat)), 3) := dk_of ((dk_bind (dk_u1 (h 0 _ rfl))).trans ((dk_bind (dk_map (dk_u2 (h 1 _ rfl) (h 2 _ rfl)))).trans rfl))
theorem dk_167 {code : ByteArray} {pc : Nat} (a b : UInt8) (h : DkAt code pc [167, a, b]) : decode code pc = .ok (.goto (Reader.signed 16 (a.toNat * 256 + b.toNat)), 3) := dk_of ((dk_bind (dk_u1 (h 0 _ rfl))).trans ((dk_bind (dk_map (dk_u2 (h 1 _ rfl) (h 2 _ rfl)))).trans rfl))
theorem dk_172 {code : ByteArray} {pc : Nat} (h : DkAt code pc [172]) : decode code pc = .ok (.ireturn, 1) := dk_of ((dk_bind (dk_u1 (h 0 _ rfl))).trans rfl)
theorem dk_173 {code : ByteArray} {pc : Nat} (h : DkAt code pc [173]) : decode code pc = .ok (.lreturn, 1) := dk_of ((dk_bind (dk_u1 (h 0 _ rfl))).trans rfl)
theorem dk_176 {code : ByteArray} {pc : Nat} (h : DkAt code pc [176]) : decode code pc = .ok (.areturn, 1) := dk_of ((dk_bind (dk_u1 (h 0 _ rfl))).trans rfl)
theorem dk_177 {code : ByteArray} {pc : Nat} (h : DkAt code pc [177]) : decode code pc = .ok (.return_, 1) := dk_of ((dk_bind (dk_u1 (h 0 _ rfl))).trans rfl)
theorem dk_178 {code : ByteArray} {pc : Nat} (a b : UInt8) (h : DkAt code pc [178, a, b]) : decode code pc = .ok (.getstatic (a.toNat * 256 + b.toNat), 3) := dk_of ((dk_bind (dk_u1 (h 0 _ rfl))).trans ((dk_bind (dk_u2 (h 1 _ rfl) (h 2 _ rfl))).trans rfl))
theorem dk_180 {code : ByteArray} {pc : Nat} (a b : UInt8) (h : DkAt code pc [180, a, b]) : decode code pc = .ok (.getfield (a.toNat * 256 + b.toNat), 3) := dk_of ((dk_bind (dk_u1 (h 0 _ rfl))).trans ((dk_bind (dk_u2 (h 1 _ rfl) (h 2 _ rfl))).trans rfl))
theorem dk_181 {code : ByteArray} {pc : Nat} (a b : UInt8) (h : DkAt code pc [181, a, b]) : decode code pc = .ok (.putfield (a.toNat * 256 + b.toNat), 3) := dk_of ((dk_bind (dk_u1 (h 0 _ rfl))).trans ((dk_bind (dk_u2 (h 1 _ rfl) (h 2 _ rfl))).trans rfl))
theorem dk_182 {code : ByteArray} {pc : Nat} (a b : UInt8) (h : DkAt code pc [182, a, b]) : decode code pc = .ok (.invokevirtual (a.toNat * 256 + b.toNat), 3) := dk_of ((dk_bind (dk_u1 (h 0 _ rfl))).trans ((dk_bind (dk_u2 (h 1 _ rfl) (h 2 _ rfl))).trans rfl))
theorem dk_183 {code : ByteArray} {pc : Nat} (a b : UInt8) (h : DkAt code pc [183, a, b]) : decode code pc = .ok (.invokespecial (a.toNat * 256 + b.toNat), 3) := dk_of ((dk_bind (dk_u1 (h 0 _ rfl))).trans ((dk_bind (dk_u2 (h 1 _ rfl) (h 2 _ rfl))).trans rfl))
theorem dk_184 {code : ByteArray} {pc : Nat} (a b : UInt8) (h : DkAt code pc [184, a, b]) : decode code pc = .ok (.invokestatic (a.toNat * 256 + b.toNat), 3) := dk_of ((dk_bind (dk_u1 (h 0 _ rfl))).trans ((dk_bind (dk_u2 (h 1 _ rfl) (h 2 _ rfl))).trans rfl))
theorem dk_187 {code : ByteArray} {pc : Nat} (a b : UInt8) (h : DkAt code pc [187, a, b]) : decode code pc = .ok (.new (a.toNat * 256 + b.toNat), 3) := dk_of ((dk_bind (dk_u1 (h 0 _ rfl))).trans ((dk_bind (dk_u2 (h 1 _ rfl) (h 2 _ rfl))).trans rfl))
theorem dk_188_4 {code : ByteArray} {pc : Nat} (h : DkAt code pc [188, 4]) : decode code pc = .ok (.newarray .boolean, 2) := dk_of ((dk_bind (dk_u1 (h 0 _ rfl))).trans ((dk_bind (dk_u1 (h 1 _ rfl))).trans rfl))
theorem dk_188_8 {code : ByteArray} {pc : Nat} (h : DkAt code pc [188, 8]) : decode code pc = .ok (.newarray .byte, 2) := dk_of ((dk_bind (dk_u1 (h 0 _ rfl))).trans ((dk_bind (dk_u1 (h 1 _ rfl))).trans rfl))
theorem dk_188_10 {code : ByteArray} {pc : Nat} (h : DkAt code pc [188, 10]) : decode code pc = .ok (.newarray .int, 2) := dk_of ((dk_bind (dk_u1 (h 0 _ rfl))).trans ((dk_bind (dk_u1 (h 1 _ rfl))).trans rfl))
theorem dk_188_11 {code : ByteArray} {pc : Nat} (h : DkAt code pc [188, 11]) : decode code pc = .ok (.newarray .long, 2) := dk_of ((dk_bind (dk_u1 (h 0 _ rfl))).trans ((dk_bind (dk_u1 (h 1 _ rfl))).trans rfl))
theorem dk_189 {code : ByteArray} {pc : Nat} (a b : UInt8) (h : DkAt code pc [189, a, b]) : decode code pc = .ok (.anewarray (a.toNat * 256 + b.toNat), 3) := dk_of ((dk_bind (dk_u1 (h 0 _ rfl))).trans ((dk_bind (dk_u2 (h 1 _ rfl) (h 2 _ rfl))).trans rfl))
theorem dk_190 {code : ByteArray} {pc : Nat} (h : DkAt code pc [190]) : decode code pc = .ok (.arraylength, 1) := dk_of ((dk_bind (dk_u1 (h 0 _ rfl))).trans rfl)
theorem dk_191 {code : ByteArray} {pc : Nat} (h : DkAt code pc [191]) : decode code pc = .ok (.athrow, 1) := dk_of ((dk_bind (dk_u1 (h 0 _ rfl))).trans rfl)
theorem dk_192 {code : ByteArray} {pc : Nat} (a b : UInt8) (h : DkAt code pc [192, a, b]) : decode code pc = .ok (.checkcast (a.toNat * 256 + b.toNat), 3) := dk_of ((dk_bind (dk_u1 (h 0 _ rfl))).trans ((dk_bind (dk_u2 (h 1 _ rfl) (h 2 _ rfl))).trans rfl))
theorem dk_193 {code : ByteArray} {pc : Nat} (a b : UInt8) (h : DkAt code pc [193, a, b]) : decode code pc = .ok (.instanceof (a.toNat * 256 + b.toNat), 3) := dk_of ((dk_bind (dk_u1 (h 0 _ rfl))).trans ((dk_bind (dk_u2 (h 1 _ rfl) (h 2 _ rfl))).trans rfl))
theorem dk_198 {code : ByteArray} {pc : Nat} (a b : UInt8) (h : DkAt code pc [198, a, b]) : decode code pc = .ok (.ifnull (Reader.signed 16 (a.toNat * 256 + b.toNat)), 3) := dk_of ((dk_bind (dk_u1 (h 0 _ rfl))).trans ((dk_bind (dk_map (dk_u2 (h 1 _ rfl) (h 2 _ rfl)))).trans rfl))
theorem dk_199 {code : ByteArray} {pc : Nat} (a b : UInt8) (h : DkAt code pc [199, a, b]) : decode code pc = .ok (.ifnonnull (Reader.signed 16 (a.toNat * 256 + b.toNat)), 3) := dk_of ((dk_bind (dk_u1 (h 0 _ rfl))).trans ((dk_bind (dk_map (dk_u2 (h 1 _ rfl) (h 2 _ rfl)))).trans rfl))

def RJ0 : String := "java/util/AbstractCollection"
def RJ1 : String := "java/util/AbstractList"
def RJ10 : String := "java/lang/RuntimeException"
def RJ11 : String := "java/lang/IllegalStateException"
def RJ12 : String := "java/lang/IndexOutOfBoundsException"
def RJ13 : String := "java/lang/ArrayIndexOutOfBoundsException"
def RJ14 : String := "java/lang/String"
def RJ15 : String := "java/lang/AbstractStringBuilder"
def RJ16 : String := "java/lang/StringBuilder"
def RJ17 : String := "java/lang/StringUTF16"
def RJ18 : String := "jdk/internal/util/Preconditions"
def RJ19 : String := "java/lang/StringLatin1"
def RJ2 : String := "java/util/ArrayList"
def RJ20 : String := "java/lang/Number"
def RJ21 : String := "java/lang/Integer"
def RJ22 : String := "java/lang/IllegalArgumentException"
def RJ23 : String := "java/util/Objects"
def RJ24 : String := "java/util/AbstractSet"
def RJ25 : String := "java/util/TreeMap$EntrySet"
def RJ26 : String := "java/util/TreeMap$NavigableSubMap$SubMapIterator"
def RJ27 : String := "java/util/TreeMap$NavigableSubMap$SubMapEntryIterator"
def RJ28 : String := "java/lang/Long"
def RJ29 : String := "jdk/internal/misc/Unsafe"
def RJ3 : String := "java/util/AbstractMap"
def RJ30 : String := "java/util/TreeMap$PrivateEntryIterator"
def RJ31 : String := "java/util/TreeMap$EntryIterator"
def RJ32 : String := "java/util/TreeMap$KeyIterator"
def RJ33 : String := "java/util/TreeMap$NavigableSubMap$SubMapKeyIterator"
def RJ34 : String := "java/util/ArrayList$Itr"
def RJ35 : String := "java/lang/Enum"
def RJ36 : String := "java/util/TreeMap$KeySet"
def RJ37 : String := "java/util/TreeMap$Entry"
def RJ38 : String := "java/util/TreeMap$NavigableSubMap"
def RJ39 : String := "java/util/TreeMap$AscendingSubMap"
def RJ4 : String := "java/util/TreeMap"
def RJ40 : String := "java/util/TreeMap$NavigableSubMap$EntrySetView"
def RJ41 : String := "java/util/TreeMap$AscendingSubMap$AscendingEntrySetView"
def RJ42 : String := "java/util/AbstractMap$2$1"
def RJ43 : String := "java/util/TreeMap$ValueIterator"
def RJ44 : String := "java/util/ConcurrentModificationException"
def RJ45 : String := "java/util/TreeMap$Values"
def RJ46 : String := "java/util/AbstractMap$2"
def RJ47 : String := "java/lang/Object"
def RJ5 : String := "jdk/internal/util/ArraysSupport"
def RJ6 : String := "java/lang/Math"
def RJ7 : String := "java/util/Arrays"
def RJ8 : String := "java/lang/Throwable"
def RJ9 : String := "java/lang/Exception"
def RX0 : String := "MasterTreeLaw"
def RX1 : String := "MasterTree"
def RX10 : String := "MasterTree$ByClass"
def RX11 : String := "MasterTree$Combined"
def RX12 : String := "MasterTree$Not"
def RX13 : String := "MasterTree$Following"
def RX14 : String := "MasterTree$Kind$1"
def RX15 : String := "MasterTree$Kind$9"
def RX16 : String := "MasterTree$Kind$5"
def RX17 : String := "MasterTree$Kind$6"
def RX18 : String := "MasterTree$Kind$3"
def RX19 : String := "MasterTree$Kind$7"
def RX2 : String := "MasterTree$Master"
def RX20 : String := "MasterTree$Kind$2"
def RX21 : String := "MasterTree$Kind$4"
def RX22 : String := "MasterTree$Kind$8"
def RX3 : String := "MasterTree$Entry"
def RX4 : String := "MasterTreeModel"
def RX5 : String := "MasterTree$Attribute"
def RX6 : String := "MasterTree$Klass"
def RX7 : String := "MasterTree$Change"
def RX8 : String := "MasterTree$Filter"
def RX9 : String := "MasterTree$ByValue"
def TX1 : u_T := fun k => match k with
  | 0 => ("MasterTree", "attributes", "Ljava/util/List;", true)
  | 1 => ("MasterTree", "classes", "Ljava/util/List;", true)
  | 2 => ("MasterTree", "masters", "Ljava/util/List;", true)
  | 3 => ("MasterTree", "drafted", "Ljava/util/List;", true)
  | 4 => ("MasterTree", "filters", "Ljava/util/List;", true)
  | 5 => ("MasterTree", "parts", "I", false)
  | 6 => ("MasterTree", "entries", "I", false)
  | 7 => ("MasterTree", "changes", "I", false)
  | _ => ("MasterTree", "found", "Ljava/util/List;", true)
def tyX1 : Nat → FieldType := fun k => match k with
  | 0 => .object "java/util/List"
  | 1 => .object "java/util/List"
  | 2 => .object "java/util/List"
  | 3 => .object "java/util/List"
  | 4 => .object "java/util/List"
  | 5 => .int
  | 6 => .int
  | 7 => .int
  | _ => .object "java/util/List"
abbrev wsX10 : List Cond := u_ws RX1 TX1 9
theorem nmX1 : ∀ a, a < 9 → ∀ b, b < 9 → a ≠ b → (TX1 a).2.1 ≠ (TX1 b).2.1 := by decide +kernel
theorem tyX1_ok : ∀ k, k < 9 → parseFieldDescriptor (TX1 k).2.2.1 = some (tyX1 k) := by decide +kernel
theorem in_X1 : ∀ w ∈ wsX10, w ∈ lw_all := lw_in wsX10 [456, 458, 460, 462, 464, 466, 468, 470, 472] (by decide +kernel) (by decide +kernel)
def TX2 : u_T := fun k => match k with
  | 0 => ("MasterTree$Master", "number", "I", true)
  | 1 => ("MasterTree$Master", "attributes", "Ljava/util/List;", true)
  | 2 => ("MasterTree$Master", "classes", "Ljava/util/List;", true)
  | 3 => ("MasterTree$Master", "user", "I", false)
  | 4 => ("MasterTree$Master", "stamp", "I", false)
  | 5 => ("MasterTree$Master", "log", "Ljava/util/List;", true)
  | 6 => ("MasterTree$Master", "entries", "[LMasterTree$Entry;", true)
  | 7 => ("MasterTree$Master", "parents", "[I", true)
  | 8 => ("MasterTree$Master", "known", "[[I", true)
  | 9 => ("MasterTree$Master", "dropped", "J", false)
  | 10 => ("MasterTree$Master", "index", "Ljava/util/TreeMap;", true)
  | _ => ("MasterTree$Master", "byClass", "[J", true)
def tyX2 : Nat → FieldType := fun k => match k with
  | 0 => .int
  | 1 => .object "java/util/List"
  | 2 => .object "java/util/List"
  | 3 => .int
  | 4 => .int
  | 5 => .object "java/util/List"
  | 6 => .array (.object "MasterTree$Entry")
  | 7 => .array .int
  | 8 => .array (.array .int)
  | 9 => .long
  | 10 => .object "java/util/TreeMap"
  | _ => .array .long
abbrev wsX20 : List Cond := u_ws RX2 TX2 12
theorem nmX2 : ∀ a, a < 12 → ∀ b, b < 12 → a ≠ b → (TX2 a).2.1 ≠ (TX2 b).2.1 := by decide +kernel
theorem tyX2_ok : ∀ k, k < 12 → parseFieldDescriptor (TX2 k).2.2.1 = some (tyX2 k) := by decide +kernel
theorem in_X2 : ∀ w ∈ wsX20, w ∈ lw_all := lw_in wsX20 [320, 322, 324, 326, 328, 330, 332, 334, 336, 338, 340, 342] (by decide +kernel) (by decide +kernel)
def TX3 : u_T := fun k => match k with
  | 0 => ("MasterTree$Entry", "number", "I", true)
  | 1 => ("MasterTree$Entry", "attributes", "Ljava/util/List;", true)
  | 2 => ("MasterTree$Entry", "changes", "Ljava/util/List;", true)
  | 3 => ("MasterTree$Entry", "added", "LMasterTree$Change;", false)
  | 4 => ("MasterTree$Entry", "isDeleted", "Z", false)
  | 5 => ("MasterTree$Entry", "name", "I", false)
  | 6 => ("MasterTree$Entry", "link", "I", false)
  | 7 => ("MasterTree$Entry", "values", "Ljava/util/TreeMap;", true)
  | _ => ("MasterTree$Entry", "rules", "Ljava/util/TreeMap;", true)
def tyX3 : Nat → FieldType := fun k => match k with
  | 0 => .int
  | 1 => .object "java/util/List"
  | 2 => .object "java/util/List"
  | 3 => .object "MasterTree$Change"
  | 4 => .boolean
  | 5 => .int
  | 6 => .int
  | 7 => .object "java/util/TreeMap"
  | _ => .object "java/util/TreeMap"
abbrev wsX30 : List Cond := u_ws RX3 TX3 9
theorem nmX3 : ∀ a, a < 9 → ∀ b, b < 9 → a ≠ b → (TX3 a).2.1 ≠ (TX3 b).2.1 := by decide +kernel
theorem tyX3_ok : ∀ k, k < 9 → parseFieldDescriptor (TX3 k).2.2.1 = some (tyX3 k) := by decide +kernel
theorem in_X3 : ∀ w ∈ wsX30, w ∈ lw_all := lw_in wsX30 [275, 277, 279, 281, 283, 285, 287, 289, 291] (by decide +kernel) (by decide +kernel)
def TX4 : u_T := fun k => match k with
  | 0 => ("MasterTreeModel", "thrown", "I", false)
  | 1 => ("MasterTreeModel", "attributes", "I", false)
  | 2 => ("MasterTreeModel", "single", "[Z", true)
  | 3 => ("MasterTreeModel", "tens", "[Z", true)
  | 4 => ("MasterTreeModel", "classes", "I", false)
  | 5 => ("MasterTreeModel", "above", "[I", true)
  | 6 => ("MasterTreeModel", "requires", "[I", true)
  | 7 => ("MasterTreeModel", "allows", "[I", true)
  | 8 => ("MasterTreeModel", "drafts", "I", false)
  | 9 => ("MasterTreeModel", "draftAttribute", "[I", true)
  | 10 => ("MasterTreeModel", "draftValue", "[I", true)
  | 11 => ("MasterTreeModel", "parts", "I", false)
  | 12 => ("MasterTreeModel", "part", "[I", true)
  | 13 => ("MasterTreeModel", "left", "[I", true)
  | 14 => ("MasterTreeModel", "right", "[I", true)
  | 15 => ("MasterTreeModel", "truth", "[Z", true)
  | 16 => ("MasterTreeModel", "filters", "I", false)
  | 17 => ("MasterTreeModel", "filter", "[I", true)
  | 18 => ("MasterTreeModel", "user", "[I", true)
  | 19 => ("MasterTreeModel", "view", "[I", true)
  | 20 => ("MasterTreeModel", "dropped", "[Z", true)
  | 21 => ("MasterTreeModel", "entries", "I", false)
  | 22 => ("MasterTreeModel", "changes", "I", false)
  | 23 => ("MasterTreeModel", "stamp", "[I", true)
  | 24 => ("MasterTreeModel", "maker", "[I", true)
  | 25 => ("MasterTreeModel", "number", "[I", true)
  | 26 => ("MasterTreeModel", "kind", "[I", true)
  | 27 => ("MasterTreeModel", "of", "[I", true)
  | 28 => ("MasterTreeModel", "one", "[I", true)
  | 29 => ("MasterTreeModel", "two", "[I", true)
  | 30 => ("MasterTreeModel", "three", "[I", true)
  | 31 => ("MasterTreeModel", "added", "I", false)
  | 32 => ("MasterTreeModel", "from", "[I", true)
  | 33 => ("MasterTreeModel", "to", "[I", true)
  | 34 => ("MasterTreeModel", "addedAttribute", "[I", true)
  | 35 => ("MasterTreeModel", "addedValue", "[I", true)
  | 36 => ("MasterTreeModel", "order", "[I", true)
  | 37 => ("MasterTreeModel", "laid", "I", false)
  | 38 => ("MasterTreeModel", "there", "[Z", true)
  | 39 => ("MasterTreeModel", "dead", "[Z", true)
  | 40 => ("MasterTreeModel", "klass", "[I", true)
  | 41 => ("MasterTreeModel", "parent", "[I", true)
  | 42 => ("MasterTreeModel", "name", "[I", true)
  | 43 => ("MasterTreeModel", "target", "[I", true)
  | 44 => ("MasterTreeModel", "born", "[I", true)
  | 45 => ("MasterTreeModel", "place", "[I", true)
  | 46 => ("MasterTreeModel", "shown", "[I", true)
  | 47 => ("MasterTreeModel", "values", "I", false)
  | 48 => ("MasterTreeModel", "valueEntry", "[I", true)
  | 49 => ("MasterTreeModel", "valueAttribute", "[I", true)
  | 50 => ("MasterTreeModel", "valueOf", "[I", true)
  | 51 => ("MasterTreeModel", "says", "[I", true)
  | 52 => ("MasterTreeModel", "found", "I", false)
  | 53 => ("MasterTreeModel", "foundAt", "[I", true)
  | 54 => ("MasterTreeModel", "waiting", "I", false)
  | 55 => ("MasterTreeModel", "queue", "[I", true)
  | 56 => ("MasterTreeModel", "met", "[Z", true)
  | 57 => ("MasterTreeModel", "otherLive", "[Z", true)
  | 58 => ("MasterTreeModel", "otherKlass", "[I", true)
  | 59 => ("MasterTreeModel", "otherPlace", "[I", true)
  | 60 => ("MasterTreeModel", "otherShown", "[I", true)
  | 61 => ("MasterTreeModel", "otherTarget", "[I", true)
  | 62 => ("MasterTreeModel", "otherValues", "I", false)
  | 63 => ("MasterTreeModel", "otherEntry", "[I", true)
  | 64 => ("MasterTreeModel", "otherAttribute", "[I", true)
  | 65 => ("MasterTreeModel", "otherOf", "[I", true)
  | _ => ("MasterTreeModel", "otherSays", "[I", true)
def tyX4 : Nat → FieldType := fun k => match k with
  | 0 => .int
  | 1 => .int
  | 2 => .array .boolean
  | 3 => .array .boolean
  | 4 => .int
  | 5 => .array .int
  | 6 => .array .int
  | 7 => .array .int
  | 8 => .int
  | 9 => .array .int
  | 10 => .array .int
  | 11 => .int
  | 12 => .array .int
  | 13 => .array .int
  | 14 => .array .int
  | 15 => .array .boolean
  | 16 => .int
  | 17 => .array .int
  | 18 => .array .int
  | 19 => .array .int
  | 20 => .array .boolean
  | 21 => .int
  | 22 => .int
  | 23 => .array .int
  | 24 => .array .int
  | 25 => .array .int
  | 26 => .array .int
  | 27 => .array .int
  | 28 => .array .int
  | 29 => .array .int
  | 30 => .array .int
  | 31 => .int
  | 32 => .array .int
  | 33 => .array .int
  | 34 => .array .int
  | 35 => .array .int
  | 36 => .array .int
  | 37 => .int
  | 38 => .array .boolean
  | 39 => .array .boolean
  | 40 => .array .int
  | 41 => .array .int
  | 42 => .array .int
  | 43 => .array .int
  | 44 => .array .int
  | 45 => .array .int
  | 46 => .array .int
  | 47 => .int
  | 48 => .array .int
  | 49 => .array .int
  | 50 => .array .int
  | 51 => .array .int
  | 52 => .int
  | 53 => .array .int
  | 54 => .int
  | 55 => .array .int
  | 56 => .array .boolean
  | 57 => .array .boolean
  | 58 => .array .int
  | 59 => .array .int
  | 60 => .array .int
  | 61 => .array .int
  | 62 => .int
  | 63 => .array .int
  | 64 => .array .int
  | 65 => .array .int
  | _ => .array .int
abbrev wsX40 : List Cond := u_ws RX4 TX4 67
set_option maxRecDepth 100000 in
theorem nmX4 : ∀ a, a < 67 → ∀ b, b < 67 → a ≠ b → (TX4 a).2.1 ≠ (TX4 b).2.1 := by decide +kernel
set_option maxRecDepth 100000 in
theorem tyX4_ok : ∀ k, k < 67 → parseFieldDescriptor (TX4 k).2.2.1 = some (tyX4 k) := by decide +kernel
theorem in_X4 : ∀ w ∈ wsX40, w ∈ lw_all := lw_in wsX40 [3222, 3224, 3226, 3228, 3230, 3232, 3234, 3236, 3238, 3240, 3242, 3244, 3246, 3248, 3250, 3252, 3254, 3256, 3258, 3260, 3262, 3264, 3266, 3268, 3270, 3272, 3274, 3276, 3278, 3280, 3282, 3284, 3286, 3288, 3290, 3292, 3294, 3296, 3298, 3300, 3302, 3304, 3306, 3308, 3310, 3312, 3314, 3316, 3318, 3320, 3322, 3324, 3326, 3328, 3330, 3332, 3334, 3336, 3338, 3340, 3342, 3344, 3346, 3348, 3350, 3352, 3354] (by decide +kernel) (by decide +kernel)
def TX5 : u_T := fun k => match k with
  | 0 => ("MasterTree$Attribute", "isSingle", "Z", true)
  | _ => ("MasterTree$Attribute", "isByTens", "Z", true)
def tyX5 : Nat → FieldType := fun k => match k with
  | 0 => .boolean
  | _ => .boolean
abbrev wsX50 : List Cond := u_ws RX5 TX5 2
theorem nmX5 : ∀ a, a < 2 → ∀ b, b < 2 → a ≠ b → (TX5 a).2.1 ≠ (TX5 b).2.1 := by decide +kernel
theorem tyX5_ok : ∀ k, k < 2 → parseFieldDescriptor (TX5 k).2.2.1 = some (tyX5 k) := by decide +kernel
theorem in_X5 : ∀ w ∈ wsX50, w ∈ lw_all := lw_in wsX50 [592, 594] (by decide +kernel) (by decide +kernel)
def TX6 : u_T := fun k => match k with
  | 0 => ("MasterTree$Klass", "parent", "LMasterTree$Klass;", true)
  | 1 => ("MasterTree$Klass", "required", "I", true)
  | _ => ("MasterTree$Klass", "allowed", "I", true)
def tyX6 : Nat → FieldType := fun k => match k with
  | 0 => .object "MasterTree$Klass"
  | 1 => .int
  | _ => .int
abbrev wsX60 : List Cond := u_ws RX6 TX6 3
theorem nmX6 : ∀ a, a < 3 → ∀ b, b < 3 → a ≠ b → (TX6 a).2.1 ≠ (TX6 b).2.1 := by decide +kernel
theorem tyX6_ok : ∀ k, k < 3 → parseFieldDescriptor (TX6 k).2.2.1 = some (tyX6 k) := by decide +kernel
theorem in_X6 : ∀ w ∈ wsX60, w ∈ lw_all := lw_in wsX60 [920, 922, 924] (by decide +kernel) (by decide +kernel)
def TX7 : u_T := fun k => match k with
  | 0 => ("MasterTree$Change", "stamp", "I", true)
  | 1 => ("MasterTree$Change", "master", "I", true)
  | 2 => ("MasterTree$Change", "number", "I", true)
  | 3 => ("MasterTree$Change", "kind", "LMasterTree$Kind;", true)
  | 4 => ("MasterTree$Change", "entry", "I", true)
  | 5 => ("MasterTree$Change", "first", "I", true)
  | 6 => ("MasterTree$Change", "second", "I", true)
  | 7 => ("MasterTree$Change", "klass", "I", true)
  | _ => ("MasterTree$Change", "values", "Ljava/util/List;", true)
def tyX7 : Nat → FieldType := fun k => match k with
  | 0 => .int
  | 1 => .int
  | 2 => .int
  | 3 => .object "MasterTree$Kind"
  | 4 => .int
  | 5 => .int
  | 6 => .int
  | 7 => .int
  | _ => .object "java/util/List"
abbrev wsX70 : List Cond := u_ws RX7 TX7 9
theorem nmX7 : ∀ a, a < 9 → ∀ b, b < 9 → a ≠ b → (TX7 a).2.1 ≠ (TX7 b).2.1 := by decide +kernel
theorem tyX7_ok : ∀ k, k < 9 → parseFieldDescriptor (TX7 k).2.2.1 = some (tyX7 k) := by decide +kernel
theorem in_X7 : ∀ w ∈ wsX70, w ∈ lw_all := lw_in wsX70 [1766, 1768, 1770, 1772, 1774, 1776, 1778, 1780, 1782] (by decide +kernel) (by decide +kernel)
def TX9 : u_T := fun k => match k with
  | 0 => ("MasterTree$ByValue", "attribute", "I", true)
  | 1 => ("MasterTree$ByValue", "key", "I", true)
  | _ => ("MasterTree$ByValue", "isLeast", "Z", true)
def tyX9 : Nat → FieldType := fun k => match k with
  | 0 => .int
  | 1 => .int
  | _ => .boolean
abbrev wsX90 : List Cond := u_ws RX9 TX9 3
theorem nmX9 : ∀ a, a < 3 → ∀ b, b < 3 → a ≠ b → (TX9 a).2.1 ≠ (TX9 b).2.1 := by decide +kernel
theorem tyX9_ok : ∀ k, k < 3 → parseFieldDescriptor (TX9 k).2.2.1 = some (tyX9 k) := by decide +kernel
theorem in_X9 : ∀ w ∈ wsX90, w ∈ lw_all := lw_in wsX90 [2575, 2577, 2579] (by decide +kernel) (by decide +kernel)
def TX10 : u_T := fun k => match k with
  | _ => ("MasterTree$ByClass", "klass", "LMasterTree$Klass;", true)
def tyX10 : Nat → FieldType := fun k => match k with
  | _ => .object "MasterTree$Klass"
abbrev wsX100 : List Cond := u_ws RX10 TX10 1
theorem nmX10 : ∀ a, a < 1 → ∀ b, b < 1 → a ≠ b → (TX10 a).2.1 ≠ (TX10 b).2.1 := by decide +kernel
theorem tyX10_ok : ∀ k, k < 1 → parseFieldDescriptor (TX10 k).2.2.1 = some (tyX10 k) := by decide +kernel
theorem in_X10 : ∀ w ∈ wsX100, w ∈ lw_all := lw_in wsX100 [2615] (by decide +kernel) (by decide +kernel)
def TX11 : u_T := fun k => match k with
  | 0 => ("MasterTree$Combined", "one", "LMasterTree$Filter;", true)
  | 1 => ("MasterTree$Combined", "other", "LMasterTree$Filter;", true)
  | _ => ("MasterTree$Combined", "both", "Z", true)
def tyX11 : Nat → FieldType := fun k => match k with
  | 0 => .object "MasterTree$Filter"
  | 1 => .object "MasterTree$Filter"
  | _ => .boolean
abbrev wsX110 : List Cond := u_ws RX11 TX11 3
theorem nmX11 : ∀ a, a < 3 → ∀ b, b < 3 → a ≠ b → (TX11 a).2.1 ≠ (TX11 b).2.1 := by decide +kernel
theorem tyX11_ok : ∀ k, k < 3 → parseFieldDescriptor (TX11 k).2.2.1 = some (tyX11 k) := by decide +kernel
theorem in_X11 : ∀ w ∈ wsX110, w ∈ lw_all := lw_in wsX110 [2643, 2645, 2647] (by decide +kernel) (by decide +kernel)
def TX12 : u_T := fun k => match k with
  | _ => ("MasterTree$Not", "its", "LMasterTree$Filter;", true)
def tyX12 : Nat → FieldType := fun k => match k with
  | _ => .object "MasterTree$Filter"
abbrev wsX120 : List Cond := u_ws RX12 TX12 1
theorem nmX12 : ∀ a, a < 1 → ∀ b, b < 1 → a ≠ b → (TX12 a).2.1 ≠ (TX12 b).2.1 := by decide +kernel
theorem tyX12_ok : ∀ k, k < 1 → parseFieldDescriptor (TX12 k).2.2.1 = some (tyX12 k) := by decide +kernel
theorem in_X12 : ∀ w ∈ wsX120, w ∈ lw_all := lw_in wsX120 [2667] (by decide +kernel) (by decide +kernel)
def TX13 : u_T := fun k => match k with
  | 0 => ("MasterTree$Following", "filter", "LMasterTree$Filter;", true)
  | 1 => ("MasterTree$Following", "user", "I", true)
  | 2 => ("MasterTree$Following", "scope", "I", true)
  | 3 => ("MasterTree$Following", "met", "[J", true)
  | 4 => ("MasterTree$Following", "row", "Ljava/util/List;", true)
  | _ => ("MasterTree$Following", "this$0", "LMasterTree;", true)
def tyX13 : Nat → FieldType := fun k => match k with
  | 0 => .object "MasterTree$Filter"
  | 1 => .int
  | 2 => .int
  | 3 => .array .long
  | 4 => .object "java/util/List"
  | _ => .object "MasterTree"
abbrev wsX130 : List Cond := u_ws RX13 TX13 6
theorem nmX13 : ∀ a, a < 6 → ∀ b, b < 6 → a ≠ b → (TX13 a).2.1 ≠ (TX13 b).2.1 := by decide +kernel
theorem tyX13_ok : ∀ k, k < 6 → parseFieldDescriptor (TX13 k).2.2.1 = some (tyX13 k) := by decide +kernel
theorem in_X13 : ∀ w ∈ wsX130, w ∈ lw_all := lw_in wsX130 [2888, 2890, 2892, 2894, 2896, 2898] (by decide +kernel) (by decide +kernel)
def TJ2 : u_T := fun k => match k with
  | 0 => ("java/util/AbstractList", "modCount", "I", false)
  | 1 => ("java/util/ArrayList", "elementData", "[Ljava/lang/Object;", false)
  | _ => ("java/util/ArrayList", "size", "I", false)
def tyJ2 : Nat → FieldType := fun k => match k with
  | 0 => .int
  | 1 => .array (.object "java/lang/Object")
  | _ => .int
abbrev wsJ20 : List Cond := u_ws RJ2 TJ2 3
theorem nmJ2 : ∀ a, a < 3 → ∀ b, b < 3 → a ≠ b → (TJ2 a).2.1 ≠ (TJ2 b).2.1 := by decide +kernel
theorem tyJ2_ok : ∀ k, k < 3 → parseFieldDescriptor (TJ2 k).2.2.1 = some (tyJ2 k) := by decide +kernel
theorem in_J2 : ∀ w ∈ wsJ20, w ∈ lw_all := lw_in wsJ20 [180, 176, 178] (by decide +kernel) (by decide +kernel)
def TJ34 : u_T := fun k => match k with
  | 0 => ("java/util/ArrayList$Itr", "cursor", "I", false)
  | 1 => ("java/util/ArrayList$Itr", "lastRet", "I", false)
  | 2 => ("java/util/ArrayList$Itr", "expectedModCount", "I", false)
  | _ => ("java/util/ArrayList$Itr", "this$0", "Ljava/util/ArrayList;", true)
def tyJ34 : Nat → FieldType := fun k => match k with
  | 0 => .int
  | 1 => .int
  | 2 => .int
  | _ => .object "java/util/ArrayList"
abbrev wsJ340 : List Cond := u_ws RJ34 TJ34 4
theorem nmJ34 : ∀ a, a < 4 → ∀ b, b < 4 → a ≠ b → (TJ34 a).2.1 ≠ (TJ34 b).2.1 := by decide +kernel
theorem tyJ34_ok : ∀ k, k < 4 → parseFieldDescriptor (TJ34 k).2.2.1 = some (tyJ34 k) := by decide +kernel
theorem in_J34 : ∀ w ∈ wsJ340, w ∈ lw_all := lw_in wsJ340 [1706, 1708, 1710, 1712] (by decide +kernel) (by decide +kernel)
def TJ4 : u_T := fun k => match k with
  | 0 => ("java/util/AbstractMap", "keySet", "Ljava/util/Set;", false)
  | 1 => ("java/util/AbstractMap", "values", "Ljava/util/Collection;", false)
  | 2 => ("java/util/TreeMap", "comparator", "Ljava/util/Comparator;", true)
  | 3 => ("java/util/TreeMap", "root", "Ljava/util/TreeMap$Entry;", false)
  | 4 => ("java/util/TreeMap", "size", "I", false)
  | 5 => ("java/util/TreeMap", "modCount", "I", false)
  | 6 => ("java/util/TreeMap", "entrySet", "Ljava/util/TreeMap$EntrySet;", false)
  | 7 => ("java/util/TreeMap", "navigableKeySet", "Ljava/util/TreeMap$KeySet;", false)
  | _ => ("java/util/TreeMap", "descendingMap", "Ljava/util/NavigableMap;", false)
def tyJ4 : Nat → FieldType := fun k => match k with
  | 0 => .object "java/util/Set"
  | 1 => .object "java/util/Collection"
  | 2 => .object "java/util/Comparator"
  | 3 => .object "java/util/TreeMap$Entry"
  | 4 => .int
  | 5 => .int
  | 6 => .object "java/util/TreeMap$EntrySet"
  | 7 => .object "java/util/TreeMap$KeySet"
  | _ => .object "java/util/NavigableMap"
abbrev wsJ40 : List Cond := u_ws RJ4 TJ4 9
theorem nmJ4 : ∀ a, a < 9 → ∀ b, b < 9 → a ≠ b → (TJ4 a).2.1 ≠ (TJ4 b).2.1 := by decide +kernel
theorem tyJ4_ok : ∀ k, k < 9 → parseFieldDescriptor (TJ4 k).2.2.1 = some (tyJ4 k) := by decide +kernel
theorem in_J4 : ∀ w ∈ wsJ40, w ∈ lw_all := lw_in wsJ40 [230, 232, 216, 218, 220, 222, 224, 226, 228] (by decide +kernel) (by decide +kernel)
def TJ37 : u_T := fun k => match k with
  | 0 => ("java/util/TreeMap$Entry", "key", "Ljava/lang/Object;", false)
  | 1 => ("java/util/TreeMap$Entry", "value", "Ljava/lang/Object;", false)
  | 2 => ("java/util/TreeMap$Entry", "left", "Ljava/util/TreeMap$Entry;", false)
  | 3 => ("java/util/TreeMap$Entry", "right", "Ljava/util/TreeMap$Entry;", false)
  | 4 => ("java/util/TreeMap$Entry", "parent", "Ljava/util/TreeMap$Entry;", false)
  | _ => ("java/util/TreeMap$Entry", "color", "Z", false)
def tyJ37 : Nat → FieldType := fun k => match k with
  | 0 => .object "java/lang/Object"
  | 1 => .object "java/lang/Object"
  | 2 => .object "java/util/TreeMap$Entry"
  | 3 => .object "java/util/TreeMap$Entry"
  | 4 => .object "java/util/TreeMap$Entry"
  | _ => .boolean
abbrev wsJ370 : List Cond := u_ws RJ37 TJ37 6
theorem nmJ37 : ∀ a, a < 6 → ∀ b, b < 6 → a ≠ b → (TJ37 a).2.1 ≠ (TJ37 b).2.1 := by decide +kernel
theorem tyJ37_ok : ∀ k, k < 6 → parseFieldDescriptor (TJ37 k).2.2.1 = some (tyJ37 k) := by decide +kernel
theorem in_J37 : ∀ w ∈ wsJ370, w ∈ lw_all := lw_in wsJ370 [1911, 1913, 1915, 1917, 1919, 1921] (by decide +kernel) (by decide +kernel)
def TJ36 : u_T := fun k => match k with
  | _ => ("java/util/TreeMap$KeySet", "m", "Ljava/util/NavigableMap;", true)
def tyJ36 : Nat → FieldType := fun k => match k with
  | _ => .object "java/util/NavigableMap"
abbrev wsJ360 : List Cond := u_ws RJ36 TJ36 1
theorem nmJ36 : ∀ a, a < 1 → ∀ b, b < 1 → a ≠ b → (TJ36 a).2.1 ≠ (TJ36 b).2.1 := by decide +kernel
theorem tyJ36_ok : ∀ k, k < 1 → parseFieldDescriptor (TJ36 k).2.2.1 = some (tyJ36 k) := by decide +kernel
theorem in_J36 : ∀ w ∈ wsJ360, w ∈ lw_all := lw_in wsJ360 [1843] (by decide +kernel) (by decide +kernel)
def TJ32 : u_T := fun k => match k with
  | 0 => ("java/util/TreeMap$PrivateEntryIterator", "next", "Ljava/util/TreeMap$Entry;", false)
  | 1 => ("java/util/TreeMap$PrivateEntryIterator", "lastReturned", "Ljava/util/TreeMap$Entry;", false)
  | 2 => ("java/util/TreeMap$PrivateEntryIterator", "expectedModCount", "I", false)
  | _ => ("java/util/TreeMap$PrivateEntryIterator", "this$0", "Ljava/util/TreeMap;", true)
def tyJ32 : Nat → FieldType := fun k => match k with
  | 0 => .object "java/util/TreeMap$Entry"
  | 1 => .object "java/util/TreeMap$Entry"
  | 2 => .int
  | _ => .object "java/util/TreeMap"
abbrev wsJ320 : List Cond := u_ws RJ32 TJ32 4
theorem nmJ32 : ∀ a, a < 4 → ∀ b, b < 4 → a ≠ b → (TJ32 a).2.1 ≠ (TJ32 b).2.1 := by decide +kernel
theorem tyJ32_ok : ∀ k, k < 4 → parseFieldDescriptor (TJ32 k).2.2.1 = some (tyJ32 k) := by decide +kernel
theorem in_J32 : ∀ w ∈ wsJ320, w ∈ lw_all := lw_in wsJ320 [1416, 1417, 1418, 1419] (by decide +kernel) (by decide +kernel)
def TJ25 : u_T := fun k => match k with
  | _ => ("java/util/TreeMap$EntrySet", "this$0", "Ljava/util/TreeMap;", true)
def tyJ25 : Nat → FieldType := fun k => match k with
  | _ => .object "java/util/TreeMap"
abbrev wsJ250 : List Cond := u_ws RJ25 TJ25 1
theorem nmJ25 : ∀ a, a < 1 → ∀ b, b < 1 → a ≠ b → (TJ25 a).2.1 ≠ (TJ25 b).2.1 := by decide +kernel
theorem tyJ25_ok : ∀ k, k < 1 → parseFieldDescriptor (TJ25 k).2.2.1 = some (tyJ25 k) := by decide +kernel
theorem in_J25 : ∀ w ∈ wsJ250, w ∈ lw_all := lw_in wsJ250 [1009] (by decide +kernel) (by decide +kernel)
def TJ31 : u_T := fun k => match k with
  | 0 => ("java/util/TreeMap$PrivateEntryIterator", "next", "Ljava/util/TreeMap$Entry;", false)
  | 1 => ("java/util/TreeMap$PrivateEntryIterator", "lastReturned", "Ljava/util/TreeMap$Entry;", false)
  | 2 => ("java/util/TreeMap$PrivateEntryIterator", "expectedModCount", "I", false)
  | _ => ("java/util/TreeMap$PrivateEntryIterator", "this$0", "Ljava/util/TreeMap;", true)
def tyJ31 : Nat → FieldType := fun k => match k with
  | 0 => .object "java/util/TreeMap$Entry"
  | 1 => .object "java/util/TreeMap$Entry"
  | 2 => .int
  | _ => .object "java/util/TreeMap"
abbrev wsJ310 : List Cond := u_ws RJ31 TJ31 4
theorem nmJ31 : ∀ a, a < 4 → ∀ b, b < 4 → a ≠ b → (TJ31 a).2.1 ≠ (TJ31 b).2.1 := by decide +kernel
theorem tyJ31_ok : ∀ k, k < 4 → parseFieldDescriptor (TJ31 k).2.2.1 = some (tyJ31 k) := by decide +kernel
theorem in_J31 : ∀ w ∈ wsJ310, w ∈ lw_all := lw_in wsJ310 [1389, 1391, 1393, 1395] (by decide +kernel) (by decide +kernel)
def TJ39 : u_T := fun k => match k with
  | 0 => ("java/util/TreeMap$NavigableSubMap", "m", "Ljava/util/TreeMap;", true)
  | 1 => ("java/util/TreeMap$NavigableSubMap", "lo", "Ljava/lang/Object;", true)
  | 2 => ("java/util/TreeMap$NavigableSubMap", "hi", "Ljava/lang/Object;", true)
  | 3 => ("java/util/TreeMap$NavigableSubMap", "fromStart", "Z", true)
  | 4 => ("java/util/TreeMap$NavigableSubMap", "toEnd", "Z", true)
  | 5 => ("java/util/TreeMap$NavigableSubMap", "loInclusive", "Z", true)
  | 6 => ("java/util/TreeMap$NavigableSubMap", "hiInclusive", "Z", true)
  | 7 => ("java/util/TreeMap$NavigableSubMap", "descendingMapView", "Ljava/util/NavigableMap;", false)
  | 8 => ("java/util/TreeMap$NavigableSubMap", "entrySetView", "Ljava/util/TreeMap$NavigableSubMap$EntrySetView;", false)
  | 9 => ("java/util/TreeMap$NavigableSubMap", "navigableKeySetView", "Ljava/util/TreeMap$KeySet;", false)
  | 10 => ("java/util/AbstractMap", "keySet", "Ljava/util/Set;", false)
  | _ => ("java/util/AbstractMap", "values", "Ljava/util/Collection;", false)
def tyJ39 : Nat → FieldType := fun k => match k with
  | 0 => .object "java/util/TreeMap"
  | 1 => .object "java/lang/Object"
  | 2 => .object "java/lang/Object"
  | 3 => .boolean
  | 4 => .boolean
  | 5 => .boolean
  | 6 => .boolean
  | 7 => .object "java/util/NavigableMap"
  | 8 => .object "java/util/TreeMap$NavigableSubMap$EntrySetView"
  | 9 => .object "java/util/TreeMap$KeySet"
  | 10 => .object "java/util/Set"
  | _ => .object "java/util/Collection"
abbrev wsJ390 : List Cond := u_ws RJ39 TJ39 12
theorem nmJ39 : ∀ a, a < 12 → ∀ b, b < 12 → a ≠ b → (TJ39 a).2.1 ≠ (TJ39 b).2.1 := by decide +kernel
theorem tyJ39_ok : ∀ k, k < 12 → parseFieldDescriptor (TJ39 k).2.2.1 = some (tyJ39 k) := by decide +kernel
theorem in_J39 : ∀ w ∈ wsJ390, w ∈ lw_all := lw_in wsJ390 [2025, 2027, 2029, 2031, 2033, 2035, 2037, 2039, 2041, 2043, 2045, 2046] (by decide +kernel) (by decide +kernel)
def TJ41 : u_T := fun k => match k with
  | 0 => ("java/util/TreeMap$NavigableSubMap$EntrySetView", "size", "I", false)
  | 1 => ("java/util/TreeMap$NavigableSubMap$EntrySetView", "sizeModCount", "I", false)
  | 2 => ("java/util/TreeMap$NavigableSubMap$EntrySetView", "this$0", "Ljava/util/TreeMap$NavigableSubMap;", true)
  | _ => ("java/util/TreeMap$AscendingSubMap$AscendingEntrySetView", "this$0", "Ljava/util/TreeMap$AscendingSubMap;", true)
def tyJ41 : Nat → FieldType := fun k => match k with
  | 0 => .int
  | 1 => .int
  | 2 => .object "java/util/TreeMap$NavigableSubMap"
  | _ => .object "java/util/TreeMap$AscendingSubMap"
abbrev wsJ410 : List Cond := u_ws RJ41 TJ41 4
-- two fields of one name: no nmJ41
theorem tyJ41_ok : ∀ k, k < 4 → parseFieldDescriptor (TJ41 k).2.2.1 = some (tyJ41 k) := by decide +kernel
theorem in_J41 : ∀ w ∈ wsJ410, w ∈ lw_all := lw_in wsJ410 [2084, 2086, 2088, 2082] (by decide +kernel) (by decide +kernel)
def TJ27 : u_T := fun k => match k with
  | 0 => ("java/util/TreeMap$NavigableSubMap$SubMapIterator", "lastReturned", "Ljava/util/TreeMap$Entry;", false)
  | 1 => ("java/util/TreeMap$NavigableSubMap$SubMapIterator", "next", "Ljava/util/TreeMap$Entry;", false)
  | 2 => ("java/util/TreeMap$NavigableSubMap$SubMapIterator", "fenceKey", "Ljava/lang/Object;", true)
  | 3 => ("java/util/TreeMap$NavigableSubMap$SubMapIterator", "expectedModCount", "I", false)
  | _ => ("java/util/TreeMap$NavigableSubMap$SubMapIterator", "this$0", "Ljava/util/TreeMap$NavigableSubMap;", true)
def tyJ27 : Nat → FieldType := fun k => match k with
  | 0 => .object "java/util/TreeMap$Entry"
  | 1 => .object "java/util/TreeMap$Entry"
  | 2 => .object "java/lang/Object"
  | 3 => .int
  | _ => .object "java/util/TreeMap$NavigableSubMap"
abbrev wsJ270 : List Cond := u_ws RJ27 TJ27 5
theorem nmJ27 : ∀ a, a < 5 → ∀ b, b < 5 → a ≠ b → (TJ27 a).2.1 ≠ (TJ27 b).2.1 := by decide +kernel
theorem tyJ27_ok : ∀ k, k < 5 → parseFieldDescriptor (TJ27 k).2.2.1 = some (tyJ27 k) := by decide +kernel
theorem in_J27 : ∀ w ∈ wsJ270, w ∈ lw_all := lw_in wsJ270 [1358, 1360, 1362, 1364, 1366] (by decide +kernel) (by decide +kernel)
def TJ33 : u_T := fun k => match k with
  | 0 => ("java/util/TreeMap$NavigableSubMap$SubMapIterator", "lastReturned", "Ljava/util/TreeMap$Entry;", false)
  | 1 => ("java/util/TreeMap$NavigableSubMap$SubMapIterator", "next", "Ljava/util/TreeMap$Entry;", false)
  | 2 => ("java/util/TreeMap$NavigableSubMap$SubMapIterator", "fenceKey", "Ljava/lang/Object;", true)
  | 3 => ("java/util/TreeMap$NavigableSubMap$SubMapIterator", "expectedModCount", "I", false)
  | 4 => ("java/util/TreeMap$NavigableSubMap$SubMapIterator", "this$0", "Ljava/util/TreeMap$NavigableSubMap;", true)
  | _ => ("java/util/TreeMap$NavigableSubMap$SubMapKeyIterator", "this$0", "Ljava/util/TreeMap$NavigableSubMap;", true)
def tyJ33 : Nat → FieldType := fun k => match k with
  | 0 => .object "java/util/TreeMap$Entry"
  | 1 => .object "java/util/TreeMap$Entry"
  | 2 => .object "java/lang/Object"
  | 3 => .int
  | 4 => .object "java/util/TreeMap$NavigableSubMap"
  | _ => .object "java/util/TreeMap$NavigableSubMap"
abbrev wsJ330 : List Cond := u_ws RJ33 TJ33 6
-- two fields of one name: no nmJ33
theorem tyJ33_ok : ∀ k, k < 6 → parseFieldDescriptor (TJ33 k).2.2.1 = some (tyJ33 k) := by decide +kernel
theorem in_J33 : ∀ w ∈ wsJ330, w ∈ lw_all := lw_in wsJ330 [1439, 1440, 1441, 1442, 1443, 1437] (by decide +kernel) (by decide +kernel)
def TJ46 : u_T := fun k => match k with
  | _ => ("java/util/AbstractMap$2", "this$0", "Ljava/util/AbstractMap;", true)
def tyJ46 : Nat → FieldType := fun k => match k with
  | _ => .object "java/util/AbstractMap"
abbrev wsJ460 : List Cond := u_ws RJ46 TJ46 1
theorem nmJ46 : ∀ a, a < 1 → ∀ b, b < 1 → a ≠ b → (TJ46 a).2.1 ≠ (TJ46 b).2.1 := by decide +kernel
theorem tyJ46_ok : ∀ k, k < 1 → parseFieldDescriptor (TJ46 k).2.2.1 = some (tyJ46 k) := by decide +kernel
theorem in_J46 : ∀ w ∈ wsJ460, w ∈ lw_all := lw_in wsJ460 [2740] (by decide +kernel) (by decide +kernel)
def TJ42 : u_T := fun k => match k with
  | 0 => ("java/util/AbstractMap$2$1", "i", "Ljava/util/Iterator;", false)
  | _ => ("java/util/AbstractMap$2$1", "this$1", "Ljava/util/AbstractMap$2;", true)
def tyJ42 : Nat → FieldType := fun k => match k with
  | 0 => .object "java/util/Iterator"
  | _ => .object "java/util/AbstractMap$2"
abbrev wsJ420 : List Cond := u_ws RJ42 TJ42 2
theorem nmJ42 : ∀ a, a < 2 → ∀ b, b < 2 → a ≠ b → (TJ42 a).2.1 ≠ (TJ42 b).2.1 := by decide +kernel
theorem tyJ42_ok : ∀ k, k < 2 → parseFieldDescriptor (TJ42 k).2.2.1 = some (tyJ42 k) := by decide +kernel
theorem in_J42 : ∀ w ∈ wsJ420, w ∈ lw_all := lw_in wsJ420 [2117, 2119] (by decide +kernel) (by decide +kernel)
def TJ21 : u_T := fun k => match k with
  | _ => ("java/lang/Integer", "value", "I", true)
def tyJ21 : Nat → FieldType := fun k => match k with
  | _ => .int
abbrev wsJ210 : List Cond := u_ws RJ21 TJ21 1
theorem nmJ21 : ∀ a, a < 1 → ∀ b, b < 1 → a ≠ b → (TJ21 a).2.1 ≠ (TJ21 b).2.1 := by decide +kernel
theorem tyJ21_ok : ∀ k, k < 1 → parseFieldDescriptor (TJ21 k).2.2.1 = some (tyJ21 k) := by decide +kernel
theorem in_J21 : ∀ w ∈ wsJ210, w ∈ lw_all := lw_in wsJ210 [1635] (by decide +kernel) (by decide +kernel)
def TJ28 : u_T := fun k => match k with
  | _ => ("java/lang/Long", "value", "J", true)
def tyJ28 : Nat → FieldType := fun k => match k with
  | _ => .long
abbrev wsJ280 : List Cond := u_ws RJ28 TJ28 1
theorem nmJ28 : ∀ a, a < 1 → ∀ b, b < 1 → a ≠ b → (TJ28 a).2.1 ≠ (TJ28 b).2.1 := by decide +kernel
theorem tyJ28_ok : ∀ k, k < 1 → parseFieldDescriptor (TJ28 k).2.2.1 = some (tyJ28 k) := by decide +kernel
theorem in_J28 : ∀ w ∈ wsJ280, w ∈ lw_all := lw_in wsJ280 [1870] (by decide +kernel) (by decide +kernel)
def TJ14 : u_T := fun k => match k with
  | 0 => ("java/lang/String", "value", "[B", true)
  | 1 => ("java/lang/String", "coder", "B", true)
  | 2 => ("java/lang/String", "hash", "I", false)
  | _ => ("java/lang/String", "hashIsZero", "Z", false)
def tyJ14 : Nat → FieldType := fun k => match k with
  | 0 => .array .byte
  | 1 => .byte
  | 2 => .int
  | _ => .boolean
abbrev wsJ140 : List Cond := u_ws RJ14 TJ14 4
theorem nmJ14 : ∀ a, a < 4 → ∀ b, b < 4 → a ≠ b → (TJ14 a).2.1 ≠ (TJ14 b).2.1 := by decide +kernel
theorem tyJ14_ok : ∀ k, k < 4 → parseFieldDescriptor (TJ14 k).2.2.1 = some (tyJ14 k) := by decide +kernel
theorem in_J14 : ∀ w ∈ wsJ140, w ∈ lw_all := lw_in wsJ140 [620, 622, 879, 881] (by decide +kernel) (by decide +kernel)
def TJ16 : u_T := fun k => match k with
  | 0 => ("java/lang/AbstractStringBuilder", "value", "[B", false)
  | 1 => ("java/lang/AbstractStringBuilder", "coder", "B", false)
  | 2 => ("java/lang/AbstractStringBuilder", "maybeLatin1", "Z", false)
  | _ => ("java/lang/AbstractStringBuilder", "count", "I", false)
def tyJ16 : Nat → FieldType := fun k => match k with
  | 0 => .array .byte
  | 1 => .byte
  | 2 => .boolean
  | _ => .int
abbrev wsJ160 : List Cond := u_ws RJ16 TJ16 4
theorem nmJ16 : ∀ a, a < 4 → ∀ b, b < 4 → a ≠ b → (TJ16 a).2.1 ≠ (TJ16 b).2.1 := by decide +kernel
theorem tyJ16_ok : ∀ k, k < 4 → parseFieldDescriptor (TJ16 k).2.2.1 = some (tyJ16 k) := by decide +kernel
theorem in_J16 : ∀ w ∈ wsJ160, w ∈ lw_all := lw_in wsJ160 [667, 669, 671, 673] (by decide +kernel) (by decide +kernel)
abbrev clT : List vw_C := [(RX1, TX1, 9), (RX2, TX2, 12), (RX3, TX3, 9), (RX4, TX4, 67), (RX5, TX5, 2), (RX6, TX6, 3), (RX7, TX7, 9), (RX9, TX9, 3), (RX10, TX10, 1), (RX11, TX11, 3), (RX12, TX12, 1), (RX13, TX13, 6), (RJ2, TJ2, 3), (RJ34, TJ34, 4), (RJ4, TJ4, 9), (RJ37, TJ37, 6), (RJ36, TJ36, 1), (RJ32, TJ32, 4), (RJ25, TJ25, 1), (RJ31, TJ31, 4), (RJ39, TJ39, 12), (RJ41, TJ41, 4), (RJ27, TJ27, 5), (RJ33, TJ33, 6), (RJ46, TJ46, 1), (RJ42, TJ42, 2), (RJ21, TJ21, 1), (RJ28, TJ28, 1), (RJ14, TJ14, 4), (RJ16, TJ16, 4)]
def tyT : Nat → Nat → FieldType := fun c => match c with
  | 0 => tyX1
  | 1 => tyX2
  | 2 => tyX3
  | 3 => tyX4
  | 4 => tyX5
  | 5 => tyX6
  | 6 => tyX7
  | 7 => tyX9
  | 8 => tyX10
  | 9 => tyX11
  | 10 => tyX12
  | 11 => tyX13
  | 12 => tyJ2
  | 13 => tyJ34
  | 14 => tyJ4
  | 15 => tyJ37
  | 16 => tyJ36
  | 17 => tyJ32
  | 18 => tyJ25
  | 19 => tyJ31
  | 20 => tyJ39
  | 21 => tyJ41
  | 22 => tyJ27
  | 23 => tyJ33
  | 24 => tyJ46
  | 25 => tyJ42
  | 26 => tyJ21
  | 27 => tyJ28
  | 28 => tyJ14
  | _ => tyJ16
abbrev atT : List FieldType := [.int, .boolean, .byte, .long, .object "java/lang/Object", .object "MasterTree$Entry", .array .int, .object "java/lang/Integer", .object "java/lang/Long"]
def xn_ : Nat → String := fun k => match k with
  | 0 => "java/lang/IndexOutOfBoundsException"
  | 1 => "java/lang/IllegalArgumentException"
  | 2 => "java/lang/IllegalStateException"
  | 3 => "MasterTree$Kind$1"
  | 4 => "MasterTree$Kind$2"
  | 5 => "MasterTree$Kind$3"
  | 6 => "MasterTree$Kind$4"
  | 7 => "MasterTree$Kind$5"
  | 8 => "MasterTree$Kind$6"
  | 9 => "MasterTree$Kind$7"
  | 10 => "MasterTree$Kind$8"
  | _ => "MasterTree$Kind$9"
theorem clT_in : ∀ (c : Nat) (q : vw_C), clT[c]? = some q → ∀ w ∈ u_ws q.1 q.2.1 q.2.2, w ∈ lw_all := by
  intro c q hq
  match c, hq with
  | 0, hq => cases hq; exact in_X1
  | 1, hq => cases hq; exact in_X2
  | 2, hq => cases hq; exact in_X3
  | 3, hq => cases hq; exact in_X4
  | 4, hq => cases hq; exact in_X5
  | 5, hq => cases hq; exact in_X6
  | 6, hq => cases hq; exact in_X7
  | 7, hq => cases hq; exact in_X9
  | 8, hq => cases hq; exact in_X10
  | 9, hq => cases hq; exact in_X11
  | 10, hq => cases hq; exact in_X12
  | 11, hq => cases hq; exact in_X13
  | 12, hq => cases hq; exact in_J2
  | 13, hq => cases hq; exact in_J34
  | 14, hq => cases hq; exact in_J4
  | 15, hq => cases hq; exact in_J37
  | 16, hq => cases hq; exact in_J36
  | 17, hq => cases hq; exact in_J32
  | 18, hq => cases hq; exact in_J25
  | 19, hq => cases hq; exact in_J31
  | 20, hq => cases hq; exact in_J39
  | 21, hq => cases hq; exact in_J41
  | 22, hq => cases hq; exact in_J27
  | 23, hq => cases hq; exact in_J33
  | 24, hq => cases hq; exact in_J46
  | 25, hq => cases hq; exact in_J42
  | 26, hq => cases hq; exact in_J21
  | 27, hq => cases hq; exact in_J28
  | 28, hq => cases hq; exact in_J14
  | 29, hq => cases hq; exact in_J16
  | n + 30, hq => simp [clT] at hq
theorem clT_ty : ∀ (c : Nat) (q : vw_C), clT[c]? = some q → ∀ k, k < q.2.2 → parseFieldDescriptor (q.2.1 k).2.2.1 = some (tyT c k) := by
  intro c q hq
  match c, hq with
  | 0, hq => cases hq; exact tyX1_ok
  | 1, hq => cases hq; exact tyX2_ok
  | 2, hq => cases hq; exact tyX3_ok
  | 3, hq => cases hq; exact tyX4_ok
  | 4, hq => cases hq; exact tyX5_ok
  | 5, hq => cases hq; exact tyX6_ok
  | 6, hq => cases hq; exact tyX7_ok
  | 7, hq => cases hq; exact tyX9_ok
  | 8, hq => cases hq; exact tyX10_ok
  | 9, hq => cases hq; exact tyX11_ok
  | 10, hq => cases hq; exact tyX12_ok
  | 11, hq => cases hq; exact tyX13_ok
  | 12, hq => cases hq; exact tyJ2_ok
  | 13, hq => cases hq; exact tyJ34_ok
  | 14, hq => cases hq; exact tyJ4_ok
  | 15, hq => cases hq; exact tyJ37_ok
  | 16, hq => cases hq; exact tyJ36_ok
  | 17, hq => cases hq; exact tyJ32_ok
  | 18, hq => cases hq; exact tyJ25_ok
  | 19, hq => cases hq; exact tyJ31_ok
  | 20, hq => cases hq; exact tyJ39_ok
  | 21, hq => cases hq; exact tyJ41_ok
  | 22, hq => cases hq; exact tyJ27_ok
  | 23, hq => cases hq; exact tyJ33_ok
  | 24, hq => cases hq; exact tyJ46_ok
  | 25, hq => cases hq; exact tyJ42_ok
  | 26, hq => cases hq; exact tyJ21_ok
  | 27, hq => cases hq; exact tyJ28_ok
  | 28, hq => cases hq; exact tyJ14_ok
  | 29, hq => cases hq; exact tyJ16_ok
  | n + 30, hq => simp [clT] at hq
theorem clT_nm : ∀ (c : Nat) (q : vw_C), clT[c]? = some q → ∀ a, a < q.2.2 → ∀ b, b < q.2.2 → a ≠ b → ((q.2.1 a).2.1 ≠ (q.2.1 b).2.1 ∨ ((q.2.1 a).2.2.2 = true ∧ (q.2.1 b).2.2.2 = true ∧ (q.2.1 a).1 ≠ (q.2.1 b).1)) := by
  intro c q hq
  match c, hq with
  | 0, hq => cases hq; exact fun a ha b hb h => Or.inl (nmX1 a ha b hb h)
  | 1, hq => cases hq; exact fun a ha b hb h => Or.inl (nmX2 a ha b hb h)
  | 2, hq => cases hq; exact fun a ha b hb h => Or.inl (nmX3 a ha b hb h)
  | 3, hq => cases hq; exact fun a ha b hb h => Or.inl (nmX4 a ha b hb h)
  | 4, hq => cases hq; exact fun a ha b hb h => Or.inl (nmX5 a ha b hb h)
  | 5, hq => cases hq; exact fun a ha b hb h => Or.inl (nmX6 a ha b hb h)
  | 6, hq => cases hq; exact fun a ha b hb h => Or.inl (nmX7 a ha b hb h)
  | 7, hq => cases hq; exact fun a ha b hb h => Or.inl (nmX9 a ha b hb h)
  | 8, hq => cases hq; exact fun a ha b hb h => Or.inl (nmX10 a ha b hb h)
  | 9, hq => cases hq; exact fun a ha b hb h => Or.inl (nmX11 a ha b hb h)
  | 10, hq => cases hq; exact fun a ha b hb h => Or.inl (nmX12 a ha b hb h)
  | 11, hq => cases hq; exact fun a ha b hb h => Or.inl (nmX13 a ha b hb h)
  | 12, hq => cases hq; exact fun a ha b hb h => Or.inl (nmJ2 a ha b hb h)
  | 13, hq => cases hq; exact fun a ha b hb h => Or.inl (nmJ34 a ha b hb h)
  | 14, hq => cases hq; exact fun a ha b hb h => Or.inl (nmJ4 a ha b hb h)
  | 15, hq => cases hq; exact fun a ha b hb h => Or.inl (nmJ37 a ha b hb h)
  | 16, hq => cases hq; exact fun a ha b hb h => Or.inl (nmJ36 a ha b hb h)
  | 17, hq => cases hq; exact fun a ha b hb h => Or.inl (nmJ32 a ha b hb h)
  | 18, hq => cases hq; exact fun a ha b hb h => Or.inl (nmJ25 a ha b hb h)
  | 19, hq => cases hq; exact fun a ha b hb h => Or.inl (nmJ31 a ha b hb h)
  | 20, hq => cases hq; exact fun a ha b hb h => Or.inl (nmJ39 a ha b hb h)
  | 21, hq => cases hq; decide +kernel
  | 22, hq => cases hq; exact fun a ha b hb h => Or.inl (nmJ27 a ha b hb h)
  | 23, hq => cases hq; decide +kernel
  | 24, hq => cases hq; exact fun a ha b hb h => Or.inl (nmJ46 a ha b hb h)
  | 25, hq => cases hq; exact fun a ha b hb h => Or.inl (nmJ42 a ha b hb h)
  | 26, hq => cases hq; exact fun a ha b hb h => Or.inl (nmJ21 a ha b hb h)
  | 27, hq => cases hq; exact fun a ha b hb h => Or.inl (nmJ28 a ha b hb h)
  | 28, hq => cases hq; exact fun a ha b hb h => Or.inl (nmJ14 a ha b hb h)
  | 29, hq => cases hq; exact fun a ha b hb h => Or.inl (nmJ16 a ha b hb h)
  | n + 30, hq => simp [clT] at hq
