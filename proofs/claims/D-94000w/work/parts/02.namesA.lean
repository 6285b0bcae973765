/-! DECODE ROWS BY BYTES: one lemma an opcode; a method's code is cut into short pieces once, and a row reads its own piece alone. -/
set_option maxRecDepth 100000
/-- the code has just these bytes from pc on -/
def DkAt (code : ByteArray) (pc : Nat) (bs : List UInt8) : Prop := ∀ (j : Nat) (b : UInt8), bs[j]? = some b → code.data.toList[pc + j]? = some b
/-- the piece W has the bytes bs from its place j on -/
def dkIn (W : List UInt8) (j : Nat) (bs : List UInt8) : Bool := decide ((W.drop j).take bs.length = bs)
theorem dk_seg {l W T : List UInt8} {o o2 : Nat} (h : l.drop o = W ++ T) (n : Nat) (hn : W.length = n) (ho : o + n = o2) : l.drop o2 = T := by
  subst ho
  rw [← List.drop_drop, h, List.drop_left' hn]
theorem dk_at {code : ByteArray} {W T bs : List UInt8} {o pc : Nat} (h : code.data.toList.drop o = W ++ T) (j : Nat) (hp : o + j = pc) (hw : dkIn W j bs = true) : DkAt code pc bs := by
  subst hp
  intro i b e
  have h1 := of_decide_eq_true hw
  have h2 : i < bs.length := (List.getElem?_eq_some_iff.mp e).1
  have h3 : W[j + i]? = some b := by
    rw [← h1, List.getElem?_take, if_pos h2, List.getElem?_drop] at e
    exact e
  have h4 : j + i < W.length := (List.getElem?_eq_some_iff.mp h3).1
  have h5 : (code.data.toList.drop o)[j + i]? = some b := by
    rw [h, List.getElem?_append_left h4]
    exact h3
  rw [List.getElem?_drop, ← Nat.add_assoc] at h5
  exact h5
theorem dk_u1 {A : ByteArray} {p : Nat} {b : UInt8} (h : A.data.toList[p]? = some b) : (Reader.u1 : Reader DecodeError Nat) A p = .ok (b.toNat, p + 1) := by
  obtain ⟨h1, h2⟩ := List.getElem?_eq_some_iff.mp h
  have h3 : p < A.size := by simpa using h1
  have h4 : A[p]'h3 = b := h2
  have e : (Reader.u1 : Reader DecodeError Nat) A p = (if h : p < A.size then .ok (A[p].toNat, p + 1) else .error (HasTruncated.truncated p)) := by
    show (do if h : p < A.size then do set (p + 1); Pure.pure A[p].toNat else MonadExcept.throw (HasTruncated.truncated p) : Reader DecodeError Nat) A p = _
    by_cases hi : p < A.size
    · rw [dif_pos hi, dif_pos hi]; rfl
    · rw [dif_neg hi, dif_neg hi]; rfl
  rw [e, dif_pos h3, h4]
theorem dk_bind {α β : Type} {r : Reader DecodeError α} {f : α → Reader DecodeError β} {A : ByteArray} {p s : Nat} {a : α} (h : r A p = .ok (a, s)) : (r >>= f) A p = f a A s := by
  show (do let (a, s) ← r A p; f a A s : Except DecodeError (β × Nat)) = _
  rw [h]
  rfl
theorem dk_map {α β : Type} {r : Reader DecodeError α} {g : α → β} {A : ByteArray} {p s : Nat} {a : α} (h : r A p = .ok (a, s)) : (g <$> r) A p = .ok (g a, s) := by
  show (do let (a, s) ← r A p; .ok (g a, s) : Except DecodeError (β × Nat)) = _
  rw [h]
  rfl
theorem dk_u2 {A : ByteArray} {p : Nat} {a b : UInt8} (h : A.data.toList[p]? = some a) (h2 : A.data.toList[p + 1]? = some b) : (Reader.u2 : Reader DecodeError Nat) A p = .ok (a.toNat * 256 + b.toNat, p + 2) := by
  show (Reader.u1 >>= fun hi => Reader.u1 >>= fun lo => Pure.pure (hi * 256 + lo) : Reader DecodeError Nat) A p = _
  rw [dk_bind (dk_u1 h), dk_bind (dk_u1 h2)]
  rfl
theorem dk_of {code : ByteArray} {pc n : Nat} {i : Instr} (h : Decoder.instr pc code pc = .ok (i, pc + n)) : decode code pc = .ok (i, n) := by
  have e : decode code pc = (match Decoder.instr pc code pc with | .error x => .error x | .ok (j, s) => .ok (j, s - pc)) := by
    show (do let (j, s) ← Decoder.instr pc code pc; Pure.pure (j, s - pc) : Except DecodeError (Instr × Nat)) = _
    cases Decoder.instr pc code pc <;> rfl
  rw [e, h]
  show Except.ok (i, pc + n - pc) = _
  rw [Nat.add_sub_cancel_left]
theorem dk_1 {code : ByteArray} {pc : Nat} (h : DkAt code pc [1]) : decode code pc = .ok (.aconst_null, 1) := dk_of ((dk_bind (dk_u1 (h 0 _ rfl))).trans rfl)
theorem dk_2 {code : ByteArray} {pc : Nat} (h : DkAt code pc [2]) : decode code pc = .ok (.iconst (-1), 1) := dk_of ((dk_bind (dk_u1 (h 0 _ rfl))).trans rfl)
theorem dk_3 {code : ByteArray} {pc : Nat} (h : DkAt code pc [3]) : decode code pc = .ok (.iconst 0, 1) := dk_of ((dk_bind (dk_u1 (h 0 _ rfl))).trans rfl)
theorem dk_4 {code : ByteArray} {pc : Nat} (h : DkAt code pc [4]) : decode code pc = .ok (.iconst 1, 1) := dk_of ((dk_bind (dk_u1 (h 0 _ rfl))).trans rfl)
theorem dk_5 {code : ByteArray} {pc : Nat} (h : DkAt code pc [5]) : decode code pc = .ok (.iconst 2, 1) := dk_of ((dk_bind (dk_u1 (h 0 _ rfl))).trans rfl)
theorem dk_6 {code : ByteArray} {pc : Nat} (h : DkAt code pc [6]) : decode code pc = .ok (.iconst 3, 1) := dk_of ((dk_bind (dk_u1 (h 0 _ rfl))).trans rfl)
theorem dk_7 {code : ByteArray} {pc : Nat} (h : DkAt code pc [7]) : decode code pc = .ok (.iconst 4, 1) := dk_of ((dk_bind (dk_u1 (h 0 _ rfl))).trans rfl)
theorem dk_8 {code : ByteArray} {pc : Nat} (h : DkAt code pc [8]) : decode code pc = .ok (.iconst 5, 1) := dk_of ((dk_bind (dk_u1 (h 0 _ rfl))).trans rfl)
theorem dk_9 {code : ByteArray} {pc : Nat} (h : DkAt code pc [9]) : decode code pc = .ok (.lconst 0, 1) := dk_of ((dk_bind (dk_u1 (h 0 _ rfl))).trans rfl)
theorem dk_10 {code : ByteArray} {pc : Nat} (h : DkAt code pc [10]) : decode code pc = .ok (.lconst 1, 1) := dk_of ((dk_bind (dk_u1 (h 0 _ rfl))).trans rfl)
theorem dk_16 {code : ByteArray} {pc : Nat} (a : UInt8) (h : DkAt code pc [16, a]) : decode code pc = .ok (.bipush (Reader.signed 8 a.toNat), 2) := dk_of ((dk_bind (dk_u1 (h 0 _ rfl))).trans ((dk_bind (dk_map (dk_u1 (h 1 _ rfl)))).trans rfl))
theorem dk_17 {code : ByteArray} {pc : Nat} (a b : UInt8) (h : DkAt code pc [17, a, b]) : decode code pc = .ok (.sipush (Reader.signed 16 (a.toNat * 256 + b.toNat)), 3) := dk_of ((dk_bind (dk_u1 (h 0 _ rfl))).trans ((dk_bind (dk_map (dk_u2 (h 1 _ rfl) (h 2 _ rfl)))).trans rfl))
theorem dk_18 {code : ByteArray} {pc : Nat} (a : UInt8) (h : DkAt code pc [18, a]) : decode code pc = .ok (.ldc a.toNat, 2) := dk_of ((dk_bind (dk_u1 (h 0 _ rfl))).trans ((dk_bind (dk_u1 (h 1 _ rfl))).trans rfl))
theorem dk_19 {code : ByteArray} {pc : Nat} (a b : UInt8) (h : DkAt code pc [19, a, b]) : decode code pc = .ok (.ldc_w (a.toNat * 256 + b.toNat), 3) := dk_of ((dk_bind (dk_u1 (h 0 _ rfl))).trans ((dk_bind (dk_u2 (h 1 _ rfl) (h 2 _ rfl))).trans rfl))
theorem dk_20 {code : ByteArray} {pc : Nat} (a b : UInt8) (h : DkAt code pc [20, a, b]) : decode code pc = .ok (.ldc2_w (a.toNat * 256 + b.toNat), 3) := dk_of ((dk_bind (dk_u1 (h 0 _ rfl))).trans ((dk_bind (dk_u2 (h 1 _ rfl) (h 2 _ rfl))).trans rfl))
theorem dk_21 {code : ByteArray} {pc : Nat} (a : UInt8) (h : DkAt code pc [21, a]) : decode code pc = .ok (.iload a.toNat, 2) := dk_of ((dk_bind (dk_u1 (h 0 _ rfl))).trans ((dk_bind (dk_u1 (h 1 _ rfl))).trans rfl))
theorem dk_22 {code : ByteArray} {pc : Nat} (a : UInt8) (h : DkAt code pc [22, a]) : decode code pc = .ok (.lload a.toNat, 2) := dk_of ((dk_bind (dk_u1 (h 0 _ rfl))).trans ((dk_bind (dk_u1 (h 1 _ rfl))).trans rfl))
theorem dk_25 {code : ByteArray} {pc : Nat} (a : UInt8) (h : DkAt code pc [25, a]) : decode code pc = .ok (.aload a.toNat, 2) := dk_of ((dk_bind (dk_u1 (h 0 _ rfl))).trans ((dk_bind (dk_u1 (h 1 _ rfl))).trans rfl))
theorem dk_26 {code : ByteArray} {pc : Nat} (h : DkAt code pc [26]) : decode code pc = .ok (.iload_n 0, 1) := dk_of ((dk_bind (dk_u1 (h 0 _ rfl))).trans rfl)
theorem dk_27 {code : ByteArray} {pc : Nat} (h : DkAt code pc [27]) : decode code pc = .ok (.iload_n 1, 1) := dk_of ((dk_bind (dk_u1 (h 0 _ rfl))).trans rfl)
theorem dk_28 {code : ByteArray} {pc : Nat} (h : DkAt code pc [28]) : decode code pc = .ok (.iload_n 2, 1) := dk_of ((dk_bind (dk_u1 (h 0 _ rfl))).trans rfl)
theorem dk_29 {code : ByteArray} {pc : Nat} (h : DkAt code pc [29]) : decode code pc = .ok (.iload_n 3, 1) := dk_of ((dk_bind (dk_u1 (h 0 _ rfl))).trans rfl)
theorem dk_30 {code : ByteArray} {pc : Nat} (h : DkAt code pc [30]) : decode code pc = .ok (.lload_n 0, 1) := dk_of ((dk_bind (dk_u1 (h 0 _ rfl))).trans rfl)
theorem dk_31 {code : ByteArray} {pc : Nat} (h : DkAt code pc [31]) : decode code pc = .ok (.lload_n 1, 1) := dk_of ((dk_bind (dk_u1 (h 0 _ rfl))).trans rfl)
theorem dk_32 {code : ByteArray} {pc : Nat} (h : DkAt code pc [32]) : decode code pc = .ok (.lload_n 2, 1) := dk_of ((dk_bind (dk_u1 (h 0 _ rfl))).trans rfl)
theorem dk_33 {code : ByteArray} {pc : Nat} (h : DkAt code pc [33]) : decode code pc = .ok (.lload_n 3, 1) := dk_of ((dk_bind (dk_u1 (h 0 _ rfl))).trans rfl)
theorem dk_42 {code : ByteArray} {pc : Nat} (h : DkAt code pc [42]) : decode code pc = .ok (.aload_n 0, 1) := dk_of ((dk_bind (dk_u1 (h 0 _ rfl))).trans rfl)
theorem dk_43 {code : ByteArray} {pc : Nat} (h : DkAt code pc [43]) : decode code pc = .ok (.aload_n 1, 1) := dk_of ((dk_bind (dk_u1 (h 0 _ rfl))).trans rfl)
theorem dk_44 {code : ByteArray} {pc : Nat} (h : DkAt code pc [44]) : decode code pc = .ok (.aload_n 2, 1) := dk_of ((dk_bind (dk_u1 (h 0 _ rfl))).trans rfl)
theorem dk_45 {code : ByteArray} {pc : Nat} (h : DkAt code pc [45]) : decode code pc = .ok (.aload_n 3, 1) := dk_of ((dk_bind (dk_u1 (h 0 _ rfl))).trans rfl)
theorem dk_46 {code : ByteArray} {pc : Nat} (h : DkAt code pc [46]) : decode code pc = .ok (.iaload, 1) := dk_of ((dk_bind (dk_u1 (h 0 _ rfl))).trans rfl)
theorem dk_47 {code : ByteArray} {pc : Nat} (h : DkAt code pc [47]) : decode code pc = .ok (.laload, 1) := dk_of ((dk_bind (dk_u1 (h 0 _ rfl))).trans rfl)
theorem dk_50 {code : ByteArray} {pc : Nat} (h : DkAt code pc [50]) : decode code pc = .ok (.aaload, 1) := dk_of ((dk_bind (dk_u1 (h 0 _ rfl))).trans rfl)
theorem dk_51 {code : ByteArray} {pc : Nat} (h : DkAt code pc [51]) : decode code pc = .ok (.baload, 1) := dk_of ((dk_bind (dk_u1 (h 0 _ rfl))).trans rfl)
theorem dk_54 {code : ByteArray} {pc : Nat} (a : UInt8) (h : DkAt code pc [54, a]) : decode code pc = .ok (.istore a.toNat, 2) := dk_of ((dk_bind (dk_u1 (h 0 _ rfl))).trans ((dk_bind (dk_u1 (h 1 _ rfl))).trans rfl))
theorem dk_55 {code : ByteArray} {pc : Nat} (a : UInt8) (h : DkAt code pc [55, a]) : decode code pc = .ok (.lstore a.toNat, 2) := dk_of ((dk_bind (dk_u1 (h 0 _ rfl))).trans ((dk_bind (dk_u1 (h 1 _ rfl))).trans rfl))
theorem dk_58 {code : ByteArray} {pc : Nat} (a : UInt8) (h : DkAt code pc [58, a]) : decode code pc = .ok (.astore a.toNat, 2) := dk_of ((dk_bind (dk_u1 (h 0 _ rfl))).trans ((dk_bind (dk_u1 (h 1 _ rfl))).trans rfl))
theorem dk_59 {code : ByteArray} {pc : Nat} (h : DkAt code pc [59]) : decode code pc = .ok (.istore_n 0, 1) := dk_of ((dk_bind (dk_u1 (h 0 _ rfl))).trans rfl)
theorem dk_60 {code : ByteArray} {pc : Nat} (h : DkAt code pc [60]) : decode code pc = .ok (.istore_n 1, 1) := dk_of ((dk_bind (dk_u1 (h 0 _ rfl))).trans rfl)
theorem dk_61 {code : ByteArray} {pc : Nat} (h : DkAt code pc [61]) : decode code pc = .ok (.istore_n 2, 1) := dk_of ((dk_bind (dk_u1 (h 0 _ rfl))).trans rfl)
theorem dk_62 {code : ByteArray} {pc : Nat} (h : DkAt code pc [62]) : decode code pc = .ok (.istore_n 3, 1) := dk_of ((dk_bind (dk_u1 (h 0 _ rfl))).trans rfl)
theorem dk_64 {code : ByteArray} {pc : Nat} (h : DkAt code pc [64]) : decode code pc = .ok (.lstore_n 1, 1) := dk_of ((dk_bind (dk_u1 (h 0 _ rfl))).trans rfl)
theorem dk_65 {code : ByteArray} {pc : Nat} (h : DkAt code pc [65]) : decode code pc = .ok (.lstore_n 2, 1) := dk_of ((dk_bind (dk_u1 (h 0 _ rfl))).trans rfl)
theorem dk_66 {code : ByteArray} {pc : Nat} (h : DkAt code pc [66]) : decode code pc = .ok (.lstore_n 3, 1) := dk_of ((dk_bind (dk_u1 (h 0 _ rfl))).trans rfl)
theorem dk_76 {code : ByteArray} {pc : Nat} (h : DkAt code pc [76]) : decode code pc = .ok (.astore_n 1, 1) := dk_of ((dk_bind (dk_u1 (h 0 _ rfl))).trans rfl)
theorem dk_77 {code : ByteArray} {pc : Nat} (h : DkAt code pc [77]) : decode code pc = .ok (.astore_n 2, 1) := dk_of ((dk_bind (dk_u1 (h 0 _ rfl))).trans rfl)
theorem dk_78 {code : ByteArray} {pc : Nat} (h : DkAt code pc [78]) : decode code pc = .ok (.astore_n 3, 1) := dk_of ((dk_bind (dk_u1 (h 0 _ rfl))).trans rfl)
theorem dk_79 {code : ByteArray} {pc : Nat} (h : DkAt code pc [79]) : decode code pc = .ok (.iastore, 1) := dk_of ((dk_bind (dk_u1 (h 0 _ rfl))).trans rfl)
theorem dk_80 {code : ByteArray} {pc : Nat} (h : DkAt code pc [80]) : decode code pc = .ok (.lastore, 1) := dk_of ((dk_bind (dk_u1 (h 0 _ rfl))).trans rfl)
theorem dk_83 {code : ByteArray} {pc : Nat} (h : DkAt code pc [83]) : decode code pc = .ok (.aastore, 1) := dk_of ((dk_bind (dk_u1 (h 0 _ rfl))).trans rfl)
theorem dk_84 {code : ByteArray} {pc : Nat} (h : DkAt code pc [84]) : decode code pc = .ok (.bastore, 1) := dk_of ((dk_bind (dk_u1 (h 0 _ rfl))).trans rfl)
theorem dk_87 {code : ByteArray} {pc : Nat} (h : DkAt code pc [87]) : decode code pc = .ok (.pop, 1) := dk_of ((dk_bind (dk_u1 (h 0 _ rfl))).trans rfl)
theorem dk_89 {code : ByteArray} {pc : Nat} (h : DkAt code pc [89]) : decode code pc = .ok (.dup, 1) := dk_of ((dk_bind (dk_u1 (h 0 _ rfl))).trans rfl)
theorem dk_90 {code : ByteArray} {pc : Nat} (h : DkAt code pc [90]) : decode code pc = .ok (.dup_x1, 1) := dk_of ((dk_bind (dk_u1 (h 0 _ rfl))).trans rfl)
theorem dk_92 {code : ByteArray} {pc : Nat} (h : DkAt code pc [92]) : decode code pc = .ok (.dup2, 1) := dk_of ((dk_bind (dk_u1 (h 0 _ rfl))).trans rfl)
theorem dk_96 {code : ByteArray} {pc : Nat} (h : DkAt code pc [96]) : decode code pc = .ok (.iadd, 1) := dk_of ((dk_bind (dk_u1 (h 0 _ rfl))).trans rfl)
theorem dk_97 {code : ByteArray} {pc : Nat} (h : DkAt code pc [97]) : decode code pc = .ok (.ladd, 1) := dk_of ((dk_bind (dk_u1 (h 0 _ rfl))).trans rfl)
theorem dk_100 {code : ByteArray} {pc : Nat} (h : DkAt code pc [100]) : decode code pc = .ok (.isub, 1) := dk_of ((dk_bind (dk_u1 (h 0 _ rfl))).trans rfl)
theorem dk_101 {code : ByteArray} {pc : Nat} (h : DkAt code pc [101]) : decode code pc = .ok (.lsub, 1) := dk_of ((dk_bind (dk_u1 (h 0 _ rfl))).trans rfl)
theorem dk_104 {code : ByteArray} {pc : Nat} (h : DkAt code pc [104]) : decode code pc = .ok (.imul, 1) := dk_of ((dk_bind (dk_u1 (h 0 _ rfl))).trans rfl)
theorem dk_105 {code : ByteArray} {pc : Nat} (h : DkAt code pc [105]) : decode code pc = .ok (.lmul, 1) := dk_of ((dk_bind (dk_u1 (h 0 _ rfl))).trans rfl)
theorem dk_108 {code : ByteArray} {pc : Nat} (h : DkAt code pc [108]) : decode code pc = .ok (.idiv, 1) := dk_of ((dk_bind (dk_u1 (h 0 _ rfl))).trans rfl)
theorem dk_109 {code : ByteArray} {pc : Nat} (h : DkAt code pc [109]) : decode code pc = .ok (.ldiv, 1) := dk_of ((dk_bind (dk_u1 (h 0 _ rfl))).trans rfl)
theorem dk_112 {code : ByteArray} {pc : Nat} (h : DkAt code pc [112]) : decode code pc = .ok (.irem, 1) := dk_of ((dk_bind (dk_u1 (h 0 _ rfl))).trans rfl)
theorem dk_113 {code : ByteArray} {pc : Nat} (h : DkAt code pc [113]) : decode code pc = .ok (.lrem, 1) := dk_of ((dk_bind (dk_u1 (h 0 _ rfl))).trans rfl)
theorem dk_116 {code : ByteArray} {pc : Nat} (h : DkAt code pc [116]) : decode code pc = .ok (.ineg, 1) := dk_of ((dk_bind (dk_u1 (h 0 _ rfl))).trans rfl)
theorem dk_117 {code : ByteArray} {pc : Nat} (h : DkAt code pc [117]) : decode code pc = .ok (.lneg, 1) := dk_of ((dk_bind (dk_u1 (h 0 _ rfl))).trans rfl)
theorem dk_120 {code : ByteArray} {pc : Nat} (h : DkAt code pc [120]) : decode code pc = .ok (.ishl, 1) := dk_of ((dk_bind (dk_u1 (h 0 _ rfl))).trans rfl)
theorem dk_121 {code : ByteArray} {pc : Nat} (h : DkAt code pc [121]) : decode code pc = .ok (.lshl, 1) := dk_of ((dk_bind (dk_u1 (h 0 _ rfl))).trans rfl)
theorem dk_122 {code : ByteArray} {pc : Nat} (h : DkAt code pc [122]) : decode code pc = .ok (.ishr, 1) := dk_of ((dk_bind (dk_u1 (h 0 _ rfl))).trans rfl)
theorem dk_124 {code : ByteArray} {pc : Nat} (h : DkAt code pc [124]) : decode code pc = .ok (.iushr, 1) := dk_of ((dk_bind (dk_u1 (h 0 _ rfl))).trans rfl)
theorem dk_126 {code : ByteArray} {pc : Nat} (h : DkAt code pc [126]) : decode code pc = .ok (.iand, 1) := dk_of ((dk_bind (dk_u1 (h 0 _ rfl))).trans rfl)
theorem dk_128 {code : ByteArray} {pc : Nat} (h : DkAt code pc [128]) : decode code pc = .ok (.ior, 1) := dk_of ((dk_bind (dk_u1 (h 0 _ rfl))).trans rfl)
theorem dk_129 {code : ByteArray} {pc : Nat} (h : DkAt code pc [129]) : decode code pc = .ok (.lor, 1) := dk_of ((dk_bind (dk_u1 (h 0 _ rfl))).trans rfl)
theorem dk_130 {code : ByteArray} {pc : Nat} (h : DkAt code pc [130]) : decode code pc = .ok (.ixor, 1) := dk_of ((dk_bind (dk_u1 (h 0 _ rfl))).trans rfl)
theorem dk_132 {code : ByteArray} {pc : Nat} (a b : UInt8) (h : DkAt code pc [132, a, b]) : decode code pc = .ok (.iinc a.toNat (Reader.signed 8 b.toNat), 3) := dk_of ((dk_bind (dk_u1 (h 0 _ rfl))).trans ((dk_bind (dk_u1 (h 1 _ rfl))).trans ((dk_bind (dk_map (dk_u1 (h 2 _ rfl)))).trans rfl)))
theorem dk_133 {code : ByteArray} {pc : Nat} (h : DkAt code pc [133]) : decode code pc = .ok (.i2l, 1) := dk_of ((dk_bind (dk_u1 (h 0 _ rfl))).trans rfl)
theorem dk_136 {code : ByteArray} {pc : Nat} (h : DkAt code pc [136]) : decode code pc = .ok (.l2i, 1) := dk_of ((dk_bind (dk_u1 (h 0 _ rfl))).trans rfl)
theorem dk_145 {code : ByteArray} {pc : Nat} (h : DkAt code pc [145]) : decode code pc = .ok (.i2b, 1) := dk_of ((dk_bind (dk_u1 (h 0 _ rfl))).trans rfl)
theorem dk_146 {code : ByteArray} {pc : Nat} (h : DkAt code pc [146]) : decode code pc = .ok (.i2c, 1) := dk_of ((dk_bind (dk_u1 (h 0 _ rfl))).trans rfl)
theorem dk_148 {code : ByteArray} {pc : Nat} (h : DkAt code pc [148]) : decode code pc = .ok (.lcmp, 1) := dk_of ((dk_bind (dk_u1 (h 0 _ rfl))).trans rfl)
theorem dk_153 {code : ByteArray} {pc : Nat} (a b : UInt8) (h : DkAt code pc [153, a, b]) : decode code pc = .ok (.ifCond .eq (Reader.signed 16 (a.toNat * 256 + b.toNat)), 3) := dk_of ((dk_bind (dk_u1 (h 0 _ rfl))).trans ((dk_bind (dk_map (dk_u2 (h 1 _ rfl) (h 2 _ rfl)))).trans rfl))
theorem dk_154 {code : ByteArray} {pc : Nat} (a b : UInt8) (h : DkAt code pc [154, a, b]) : decode code pc = .ok (.ifCond .ne (Reader.signed 16 (a.toNat * 256 + b.toNat)), 3) := dk_of ((dk_bind (dk_u1 (h 0 _ rfl))).trans ((dk_bind (dk_map (dk_u2 (h 1 _ rfl) (h 2 _ rfl)))).trans rfl))
theorem dk_155 {code : ByteArray} {pc : Nat} (a b : UInt8) (h : DkAt code pc [155, a, b]) : decode code pc = .ok (.ifCond .lt (Reader.signed 16 (a.toNat * 256 + b.toNat)), 3) := dk_of ((dk_bind (dk_u1 (h 0 _ rfl))).trans ((dk_bind (dk_map (dk_u2 (h 1 _ rfl) (h 2 _ rfl)))).trans rfl))
theorem dk_156 {code : ByteArray} {pc : Nat} (a b : UInt8) (h : DkAt code pc [156, a, b]) : decode code pc = .ok (.ifCond .ge (Reader.signed 16 (a.toNat * 256 + b.toNat)), 3) := dk_of ((dk_bind (dk_u1 (h 0 _ rfl))).trans ((dk_bind (dk_map (dk_u2 (h 1 _ rfl) (h 2 _ rfl)))).trans rfl))
theorem dk_157 {code : ByteArray} {pc : Nat} (a b : UInt8) (h : DkAt code pc [157, a, b]) : decode code pc = .ok (.ifCond .gt (Reader.signed 16 (a.toNat * 256 + b.toNat)), 3) := dk_of ((dk_bind (dk_u1 (h 0 _ rfl))).trans ((dk_bind (dk_map (dk_u2 (h 1 _ rfl) (h 2 _ rfl)))).trans rfl))
theorem dk_158 {code : ByteArray} {pc : Nat} (a b : UInt8) (h : DkAt code pc [158, a, b]) : decode code pc = .ok (.ifCond .le (Reader.signed 16 (a.toNat * 256 + b.toNat)), 3) := dk_of ((dk_bind (dk_u1 (h 0 _ rfl))).trans ((dk_bind (dk_map (dk_u2 (h 1 _ rfl) (h 2 _ rfl)))).trans rfl))
theorem dk_159 {code : ByteArray} {pc : Nat} (a b : UInt8) (h : DkAt code pc [159, a, b]) : decode code pc = .ok (.if_icmp .eq (Reader.signed 16 (a.toNat * 256 + b.toNat)), 3) := dk_of ((dk_bind (dk_u1 (h 0 _ rfl))).trans ((dk_bind (dk_map (dk_u2 (h 1 _ rfl) (h 2 _ rfl)))).trans rfl))
theorem dk_160 {code : ByteArray} {pc : Nat} (a b : UInt8) (h : DkAt code pc [160, a, b]) : decode code pc = .ok (.if_icmp .ne (Reader.signed 16 (a.toNat * 256 + b.toNat)), 3) := dk_of ((dk_bind (dk_u1 (h 0 _ rfl))).trans ((dk_bind (dk_map (dk_u2 (h 1 _ rfl) (h 2 _ rfl)))).trans rfl))
theorem dk_161 {code : ByteArray} {pc : Nat} (a b : UInt8) (h : DkAt code pc [161, a, b]) : decode code pc = .ok (.if_icmp .lt (Reader.signed 16 (a.toNat * 256 + b.toNat)), 3) := dk_of ((dk_bind (dk_u1 (h 0 _ rfl))).trans ((dk_bind (dk_map (dk_u2 (h 1 _ rfl) (h 2 _ rfl)))).trans rfl))
theorem dk_162 {code : ByteArray} {pc : Nat} (a b : UInt8) (h : DkAt code pc [162, a, b]) : decode code pc = .ok (.if_icmp .ge (Reader.signed 16 (a.toNat * 256 + b.toNat)), 3) := dk_of ((dk_bind (dk_u1 (h 0 _ rfl))).trans ((dk_bind (dk_map (dk_u2 (h 1 _ rfl) (h 2 _ rfl)))).trans rfl))
theorem dk_163 {code : ByteArray} {pc : Nat} (a b : UInt8) (h : DkAt code pc [163, a, b]) : decode code pc = .ok (.if_icmp .gt (Reader.signed 16 (a.toNat * 256 + b.toNat)), 3) := dk_of ((dk_bind (dk_u1 (h 0 _ rfl))).trans ((dk_bind (dk_map (dk_u2 (h 1 _ rfl) (h 2 _ rfl)))).trans rfl))
theorem dk_164 {code : ByteArray} {pc : Nat} (a b : UInt8) (h : DkAt code pc [164, a, b]) : decode code pc = .ok (.if_icmp .le (Reader.signed 16 (a.toNat * 256 + b.toNat)), 3) := dk_of ((dk_bind (dk_u1 (h 0 _ rfl))).trans ((dk_bind (dk_map (dk_u2 (h 1 _ rfl) (h 2 _ rfl)))).trans rfl))
theorem dk_165 {code : ByteArray} {pc : Nat} (a b : UInt8) (h : DkAt code pc [165, a, b]) : decode code pc = .ok (.if_acmp .eq (Reader.signed 16 (a.toNat * 256 + b.toNat)), 3) := dk_of ((dk_bind (dk_u1 (h 0 _ rfl))).trans ((dk_bind (dk_map (dk_u2 (h 1 _ rfl) (h 2 _ rfl)))).trans rfl))
theorem dk_166 {code : ByteArray} {pc : Nat} (a b : UInt8) (h : DkAt code pc [166, a, b]) : decode code pc = .ok (.if_acmp .ne (Reader.signed 16 (a.toNat * 256 + b.toNat)), 3) := dk_of ((dk_bind (dk_u1 (h 0 _ rfl))).trans ((dk_bind (dk_map (dk_u2 (h 1 _ rfl) (h 2 _ rfl)))).trans rfl))
theorem dk_167 {code : ByteArray} {pc : Nat} (a b : UInt8) (h : DkAt code pc [167, a, b]) : decode code pc = .ok (.goto (Reader.signed 16 (a.toNat * 256 + b.toNat)), 3) := dk_of ((dk_bind (dk_u1 (h 0 _ rfl))).trans ((dk_bind (dk_map (dk_u2 (h 1 _ rfl) (h 2 _ rfl)))).trans rfl))
theorem dk_172 {code : ByteArray} {pc : Nat} (h : DkAt code pc [172]) : decode code pc = .ok (.ireturn, 1) := dk_of ((dk_bind (dk_u1 (h 0 _ rfl))).trans rfl)
theorem dk_173 {code : ByteArray} {pc : Nat} (h : DkAt code pc [173]) : decode code pc = .ok (.lreturn, 1) := dk_of ((dk_bind (dk_u1 (h 0 _ rfl))).trans rfl)
theorem dk_176 {code : ByteArray} {pc : Nat} (h : DkAt code pc [176]) : decode code pc = .ok (.areturn, 1) := dk_of ((dk_bind (dk_u1 (h 0 _ rfl))).trans rfl)
theorem dk_177 {code : ByteArray} {pc : Nat} (h : DkAt code pc [177]) : decode code pc = .ok (.return_, 1) := dk_of ((dk_bind (dk_u1 (h 0 _ rfl))).trans rfl)
theorem dk_178 {code : ByteArray} {pc : Nat} (a b : UInt8) (h : DkAt code pc [178, a, b]) : decode code pc = .ok (.getstatic (a.toNat * 256 + b.toNat), 3) := dk_of ((dk_bind (dk_u1 (h 0 _ rfl))).trans ((dk_bind (dk_u2 (h 1 _ rfl) (h 2 _ rfl))).trans rfl))
theorem dk_180 {code : ByteArray} {pc : Nat} (a b : UInt8) (h : DkAt code pc [180, a, b]) : decode code pc = .ok (.getfield (a.toNat * 256 + b.toNat), 3) := dk_of ((dk_bind (dk_u1 (h 0 _ rfl))).trans ((dk_bind (dk_u2 (h 1 _ rfl) (h 2 _ rfl))).trans rfl))
theorem dk_181 {code : ByteArray} {pc : Nat} (a b : UInt8) (h : DkAt code pc [181, a, b]) : decode code pc = .ok (.putfield (a.toNat * 256 + b.toNat), 3) := dk_of ((dk_bind (dk_u1 (h 0 _ rfl))).trans ((dk_bind (dk_u2 (h 1 _ rfl) (h 2 _ rfl))).trans rfl))
theorem dk_182 {code : ByteArray} {pc : Nat} (a b : UInt8) (h : DkAt code pc [182, a, b]) : decode code pc = .ok (.invokevirtual (a.toNat * 256 + b.toNat), 3) := dk_of ((dk_bind (dk_u1 (h 0 _ rfl))).trans ((dk_bind (dk_u2 (h 1 _ rfl) (h 2 _ rfl))).trans rfl))
theorem dk_183 {code : ByteArray} {pc : Nat} (a b : UInt8) (h : DkAt code pc [183, a, b]) : decode code pc = .ok (.invokespecial (a.toNat * 256 + b.toNat), 3) := dk_of ((dk_bind (dk_u1 (h 0 _ rfl))).trans ((dk_bind (dk_u2 (h 1 _ rfl) (h 2 _ rfl))).trans rfl))
theorem dk_184 {code : ByteArray} {pc : Nat} (a b : UInt8) (h : DkAt code pc [184, a, b]) : decode code pc = .ok (.invokestatic (a.toNat * 256 + b.toNat), 3) := dk_of ((dk_bind (dk_u1 (h 0 _ rfl))).trans ((dk_bind (dk_u2 (h 1 _ rfl) (h 2 _ rfl))).trans rfl))
theorem dk_187 {code : ByteArray} {pc : Nat} (a b : UInt8) (h : DkAt code pc [187, a, b]) : decode code pc = .ok (.new (a.toNat * 256 + b.toNat), 3) := dk_of ((dk_bind (dk_u1 (h 0 _ rfl))).trans ((dk_bind (dk_u2 (h 1 _ rfl) (h 2 _ rfl))).trans rfl))
theorem dk_188_4 {code : ByteArray} {pc : Nat} (h : DkAt code pc [188, 4]) : decode code pc = .ok (.newarray .boolean, 2) := dk_of ((dk_bind (dk_u1 (h 0 _ rfl))).trans ((dk_bind (dk_u1 (h 1 _ rfl))).trans rfl))
theorem dk_188_8 {code : ByteArray} {pc : Nat} (h : DkAt code pc [188, 8]) : decode code pc = .ok (.newarray .byte, 2) := dk_of ((dk_bind (dk_u1 (h 0 _ rfl))).trans ((dk_bind (dk_u1 (h 1 _ rfl))).trans rfl))
theorem dk_188_10 {code : ByteArray} {pc : Nat} (h : DkAt code pc [188, 10]) : decode code pc = .ok (.newarray .int, 2) := dk_of ((dk_bind (dk_u1 (h 0 _ rfl))).trans ((dk_bind (dk_u1 (h 1 _ rfl))).trans rfl))
theorem dk_188_11 {code : ByteArray} {pc : Nat} (h : DkAt code pc [188, 11]) : decode code pc = .ok (.newarray .long, 2) := dk_of ((dk_bind (dk_u1 (h 0 _ rfl))).trans ((dk_bind (dk_u1 (h 1 _ rfl))).trans rfl))
theorem dk_189 {code : ByteArray} {pc : Nat} (a b : UInt8) (h : DkAt code pc [189, a, b]) : decode code pc = .ok (.anewarray (a.toNat * 256 + b.toNat), 3) := dk_of ((dk_bind (dk_u1 (h 0 _ rfl))).trans ((dk_bind (dk_u2 (h 1 _ rfl) (h 2 _ rfl))).trans rfl))
theorem dk_190 {code : ByteArray} {pc : Nat} (h : DkAt code pc [190]) : decode code pc = .ok (.arraylength, 1) := dk_of ((dk_bind (dk_u1 (h 0 _ rfl))).trans rfl)
theorem dk_191 {code : ByteArray} {pc : Nat} (h : DkAt code pc [191]) : decode code pc = .ok (.athrow, 1) := dk_of ((dk_bind (dk_u1 (h 0 _ rfl))).trans rfl)
theorem dk_192 {code : ByteArray} {pc : Nat} (a b : UInt8) (h : DkAt code pc [192, a, b]) : decode code pc = .ok (.checkcast (a.toNat * 256 + b.toNat), 3) := dk_of ((dk_bind (dk_u1 (h 0 _ rfl))).trans ((dk_bind (dk_u2 (h 1 _ rfl) (h 2 _ rfl))).trans rfl))
theorem dk_198 {code : ByteArray} {pc : Nat} (a b : UInt8) (h : DkAt code pc [198, a, b]) : decode code pc = .ok (.ifnull (Reader.signed 16 (a.toNat * 256 + b.toNat)), 3) := dk_of ((dk_bind (dk_u1 (h 0 _ rfl))).trans ((dk_bind (dk_map (dk_u2 (h 1 _ rfl) (h 2 _ rfl)))).trans rfl))
theorem dk_199 {code : ByteArray} {pc : Nat} (a b : UInt8) (h : DkAt code pc [199, a, b]) : decode code pc = .ok (.ifnonnull (Reader.signed 16 (a.toNat * 256 + b.toNat)), 3) := dk_of ((dk_bind (dk_u1 (h 0 _ rfl))).trans ((dk_bind (dk_map (dk_u2 (h 1 _ rfl) (h 2 _ rfl)))).trans rfl))
/-! SlimeNet$Wrong -/
set_option maxRecDepth 100000
def RX1 : String := "SlimeNet$Wrong"
def TX1 : u_T := fun k => match k with
  | 0 => ("java/lang/Throwable", "cause", "Ljava/lang/Throwable;", false)
  | 1 => ("java/lang/Throwable", "stackTrace", "[Ljava/lang/StackTraceElement;", false)
  | 2 => ("java/lang/Throwable", "suppressedExceptions", "Ljava/util/List;", false)
  | 3 => ("java/lang/Throwable", "detailMessage", "Ljava/lang/String;", false)
  | 4 => ("java/lang/Throwable", "backtrace", "Ljava/lang/Object;", false)
  | 5 => ("java/lang/Throwable", "depth", "I", false)
  | 6 => ("SlimeNet$Wrong", "kind", "I", false)
  | _ => ("SlimeNet$Wrong", "place", "I", false)
def tyX1 : Nat → FieldType := fun k => match k with
  | 0 => .object "java/lang/Throwable"
  | 1 => .array (.object "java/lang/StackTraceElement")
  | 2 => .object "java/util/List"
  | 3 => .object "java/lang/String"
  | 4 => .object "java/lang/Object"
  | 5 => .int
  | 6 => .int
  | _ => .int
abbrev wsX10 : List Cond := u_ws RX1 TX1 8
theorem nmX1 : ∀ a, a < 8 → ∀ b, b < 8 → a ≠ b → (TX1 a).2.1 ≠ (TX1 b).2.1 := by decide +kernel
theorem tyX1_ok : ∀ k, k < 8 → parseFieldDescriptor (TX1 k).2.2.1 = some (tyX1 k) := by decide +kernel
abbrev cX1_init : ByteArray := prog_7_method_1_code
def yX1_init : MethodName := ⟨RX1, "<init>", "()V"⟩
def dkwX1_init_0 : List UInt8 := [42, 1, 1, 3, 3, 183, 0, 1, 177]
abbrev dktX1_init_0 : List UInt8 := dkwX1_init_0 ++ []
theorem dksX1_init_0 : cX1_init.data.toList.drop 0 = dktX1_init_0 := by decide +kernel
theorem dX1_init_0 : decode cX1_init 0 = .ok (.aload_n 0, 1) := dk_42 (dk_at dksX1_init_0 0 rfl rfl)
theorem dX1_init_1 : decode cX1_init 1 = .ok (.aconst_null, 1) := dk_1 (dk_at dksX1_init_0 1 rfl rfl)
theorem dX1_init_2 : decode cX1_init 2 = .ok (.aconst_null, 1) := dk_1 (dk_at dksX1_init_0 2 rfl rfl)
theorem dX1_init_3 : decode cX1_init 3 = .ok (.iconst 0, 1) := dk_3 (dk_at dksX1_init_0 3 rfl rfl)
theorem dX1_init_4 : decode cX1_init 4 = .ok (.iconst 0, 1) := dk_3 (dk_at dksX1_init_0 4 rfl rfl)
theorem dX1_init_5 : decode cX1_init 5 = .ok (.invokespecial 1, 3) := dk_183 0 1 (dk_at dksX1_init_0 5 rfl rfl)
theorem dX1_init_8 : decode cX1_init 8 = .ok (.return_, 1) := dk_177 (dk_at dksX1_init_0 8 rfl rfl)
abbrev cX1_by : ByteArray := prog_7_method_2_code
def yX1_by : MethodName := ⟨RX1, "by", "(II)LSlimeNet$Wrong;"⟩
def dkwX1_by_0 : List UInt8 := [42, 27, 181, 0, 7, 42, 28, 181, 0, 13, 42, 176]
abbrev dktX1_by_0 : List UInt8 := dkwX1_by_0 ++ []
theorem dksX1_by_0 : cX1_by.data.toList.drop 0 = dktX1_by_0 := by decide +kernel
theorem dX1_by_0 : decode cX1_by 0 = .ok (.aload_n 0, 1) := dk_42 (dk_at dksX1_by_0 0 rfl rfl)
theorem dX1_by_1 : decode cX1_by 1 = .ok (.iload_n 1, 1) := dk_27 (dk_at dksX1_by_0 1 rfl rfl)
theorem dX1_by_2 : decode cX1_by 2 = .ok (.putfield 7, 3) := dk_181 0 7 (dk_at dksX1_by_0 2 rfl rfl)
theorem dX1_by_5 : decode cX1_by 5 = .ok (.aload_n 0, 1) := dk_42 (dk_at dksX1_by_0 5 rfl rfl)
theorem dX1_by_6 : decode cX1_by 6 = .ok (.iload_n 2, 1) := dk_28 (dk_at dksX1_by_0 6 rfl rfl)
theorem dX1_by_7 : decode cX1_by 7 = .ok (.putfield 13, 3) := dk_181 0 13 (dk_at dksX1_by_0 7 rfl rfl)
theorem dX1_by_10 : decode cX1_by 10 = .ok (.aload_n 0, 1) := dk_42 (dk_at dksX1_by_0 10 rfl rfl)
theorem dX1_by_11 : decode cX1_by 11 = .ok (.areturn, 1) := dk_176 (dk_at dksX1_by_0 11 rfl rfl)
theorem q73 : (Jvm.Cond.initialized "SlimeNet$Wrong") ∈ lw_all := lw_g (lw_at lw_m1 4 rfl) rfl
theorem q102 : (Jvm.Cond.instantiable "SlimeNet$Wrong" (8 : Nat)) ∈ lw_all := lw_g (lw_at lw_m1 33 rfl) rfl
theorem q103 : (Jvm.Cond.castable "SlimeNet$Wrong" "SlimeNet$Wrong") ∈ lw_tbl := lw_at lw_m1 34 rfl
theorem q108 : (Jvm.Cond.selects "SlimeNet$Wrong" ({ cls := "java/lang/Throwable", name := "fillInStackTrace", desc := "(I)Ljava/lang/Throwable;" } : Jvm.MethodName) ({ cls := "java/lang/Throwable", name := "fillInStackTrace", desc := "(I)Ljava/lang/Throwable;" } : Jvm.MethodName)) ∈ lw_all := lw_g (lw_at lw_m1 39 rfl) rfl
theorem q109 : (Jvm.Cond.selects "SlimeNet$Wrong" ({ cls := "java/lang/Throwable", name := "fillInStackTrace", desc := "()Ljava/lang/Throwable;" } : Jvm.MethodName) ({ cls := "java/lang/Throwable", name := "fillInStackTrace", desc := "()Ljava/lang/Throwable;" } : Jvm.MethodName)) ∈ lw_all := lw_g (lw_at lw_m1 40 rfl) rfl
theorem q110 : (Jvm.Cond.lays "SlimeNet$Wrong" "java/lang/Throwable" "cause" "Ljava/lang/Throwable;") ∈ lw_all := lw_g (lw_at lw_m1 41 rfl) rfl
theorem q112 : (Jvm.Cond.lays "SlimeNet$Wrong" "java/lang/Throwable" "stackTrace" "[Ljava/lang/StackTraceElement;") ∈ lw_all := lw_g (lw_at lw_m1 43 rfl) rfl
theorem q114 : (Jvm.Cond.lays "SlimeNet$Wrong" "java/lang/Throwable" "suppressedExceptions" "Ljava/util/List;") ∈ lw_all := lw_g (lw_at lw_m1 45 rfl) rfl
theorem q116 : (Jvm.Cond.lays "SlimeNet$Wrong" "java/lang/Throwable" "detailMessage" "Ljava/lang/String;") ∈ lw_all := lw_g (lw_at lw_m1 47 rfl) rfl
theorem q118 : (Jvm.Cond.lays "SlimeNet$Wrong" "java/lang/Throwable" "backtrace" "Ljava/lang/Object;") ∈ lw_all := lw_g (lw_at lw_m1 49 rfl) rfl
theorem q139 : (Jvm.Cond.instanceMethod ({ cls := "SlimeNet$Wrong", name := "<init>", desc := "()V" } : Jvm.MethodName)) ∈ lw_all := lw_g (lw_at lw_m1 70 rfl) rfl
theorem q140 : (Jvm.Cond.code ({ cls := "SlimeNet$Wrong", name := "<init>", desc := "()V" } : Jvm.MethodName) prog_7_method_1_code (1 : Nat) (Option.none : Option Jvm.ClassFile.FieldType)) ∈ lw_all := lw_g (lw_at lw_m1 71 rfl) rfl
theorem q141 : (Jvm.Cond.methodLink "SlimeNet$Wrong" (1 : Nat) ({ cls := "java/lang/Exception", name := "<init>", desc := "(Ljava/lang/String;Ljava/lang/Throwable;ZZ)V" } : Jvm.MethodName)) ∈ lw_all := lw_g (lw_at lw_m1 72 rfl) rfl
theorem q147 : (Jvm.Cond.fieldLink "SlimeNet$Wrong" (7 : Nat) "SlimeNet$Wrong" "kind" "I") ∈ lw_all := lw_g (lw_at lw_m1 78 rfl) rfl
theorem q149 : (Jvm.Cond.fieldLink "SlimeNet$Wrong" (13 : Nat) "SlimeNet$Wrong" "place" "I") ∈ lw_all := lw_g (lw_at lw_m1 80 rfl) rfl
theorem q156 : (Jvm.Cond.lays "SlimeNet$Wrong" "SlimeNet$Wrong" "kind" "I") ∈ lw_all := lw_g (lw_at lw_m1 87 rfl) rfl
theorem q157 : (Jvm.Cond.soleField "SlimeNet$Wrong" "kind") ∈ lw_all := lw_g (lw_at lw_m1 88 rfl) rfl
theorem q158 : (Jvm.Cond.lays "SlimeNet$Wrong" "SlimeNet$Wrong" "place" "I") ∈ lw_all := lw_g (lw_at lw_m1 89 rfl) rfl
theorem q159 : (Jvm.Cond.soleField "SlimeNet$Wrong" "place") ∈ lw_all := lw_g (lw_at lw_m1 90 rfl) rfl
theorem q164 : (Jvm.Cond.lays "SlimeNet$Wrong" "java/lang/Throwable" "depth" "I") ∈ lw_all := lw_g (lw_at lw_m1 95 rfl) rfl
theorem q167 : (Jvm.Cond.superclass "SlimeNet$Wrong" "java/lang/Exception") ∈ lw_all := lw_g (lw_at lw_m1 98 rfl) rfl
theorem q572 : (Jvm.Cond.instanceMethod ({ cls := "SlimeNet$Wrong", name := "by", desc := "(II)LSlimeNet$Wrong;" } : Jvm.MethodName)) ∈ lw_all := lw_g (lw_at lw_m3 23 rfl) rfl
theorem q573 : (Jvm.Cond.selects "SlimeNet$Wrong" ({ cls := "SlimeNet$Wrong", name := "by", desc := "(II)LSlimeNet$Wrong;" } : Jvm.MethodName) ({ cls := "SlimeNet$Wrong", name := "by", desc := "(II)LSlimeNet$Wrong;" } : Jvm.MethodName)) ∈ lw_all := lw_g (lw_at lw_m3 24 rfl) rfl
theorem q574 : (Jvm.Cond.code ({ cls := "SlimeNet$Wrong", name := "by", desc := "(II)LSlimeNet$Wrong;" } : Jvm.MethodName) prog_7_method_2_code (3 : Nat) (Option.some (Jvm.ClassFile.FieldType.object "SlimeNet$Wrong"))) ∈ lw_all := lw_g (lw_at lw_m3 25 rfl) rfl
theorem q706 : (Jvm.Cond.selects "SlimeNet$Wrong" ({ cls := "java/lang/Object", name := "getClass", desc := "()Ljava/lang/Class;" } : Jvm.MethodName) ({ cls := "java/lang/Object", name := "getClass", desc := "()Ljava/lang/Class;" } : Jvm.MethodName)) ∈ lw_all := lw_g (lw_at lw_m3 157 rfl) rfl
theorem q1593 : (Jvm.Cond.castable "SlimeNet$Wrong" "java/lang/Object") ∈ lw_tbl := lw_at lw_m7 84 rfl
theorem in_X1 : ∀ w ∈ wsX10, w ∈ lw_all := lw_in wsX10 [110, 112, 114, 116, 118, 164, 156, 158] (by decide +kernel) (by decide +kernel)
/-! SlimeNet$Plate -/
set_option maxRecDepth 100000
def RX2 : String := "SlimeNet$Plate"
def TX2 : u_T := fun k => match k with
  | 0 => ("SlimeNet$Plate", "names", "[J", true)
  | 1 => ("SlimeNet$Plate", "pipes", "Ljava/util/ArrayList;", true)
  | 2 => ("SlimeNet$Plate", "flakes", "[I", true)
  | 3 => ("SlimeNet$Plate", "far", "[I", true)
  | 4 => ("SlimeNet$Plate", "spotMany", "I", false)
  | 5 => ("SlimeNet$Plate", "flakeMany", "I", false)
  | 6 => ("SlimeNet$Plate", "up", "I", false)
  | 7 => ("SlimeNet$Plate", "down", "I", false)
  | 8 => ("SlimeNet$Plate", "width", "I", false)
  | 9 => ("SlimeNet$Plate", "learn", "I", false)
  | _ => ("SlimeNet$Plate", "clauses", "I", false)
def tyX2 : Nat → FieldType := fun k => match k with
  | 0 => .array .long
  | 1 => .object "java/util/ArrayList"
  | 2 => .array .int
  | 3 => .array .int
  | 4 => .int
  | 5 => .int
  | 6 => .int
  | 7 => .int
  | 8 => .int
  | 9 => .int
  | _ => .int
abbrev wsX20 : List Cond := u_ws RX2 TX2 11
theorem nmX2 : ∀ a, a < 11 → ∀ b, b < 11 → a ≠ b → (TX2 a).2.1 ≠ (TX2 b).2.1 := by decide +kernel
theorem tyX2_ok : ∀ k, k < 11 → parseFieldDescriptor (TX2 k).2.2.1 = some (tyX2 k) := by decide +kernel
abbrev cX2_init : ByteArray := prog_3_method_1_code
def yX2_init : MethodName := ⟨RX2, "<init>", "()V"⟩
def dkwX2_init_2 : List UInt8 := [181, 0, 33, 42, 6, 181, 0, 36, 42, 8, 181, 0, 39, 177]
abbrev dktX2_init_2 : List UInt8 := dkwX2_init_2 ++ []
def dkwX2_init_1 : List UInt8 := [16, 6, 188, 10, 181, 0, 22, 42, 16, 6, 188, 10, 181, 0, 26, 42, 8, 181, 0, 29, 42, 5]
abbrev dktX2_init_1 : List UInt8 := dkwX2_init_1 ++ dktX2_init_2
def dkwX2_init_0 : List UInt8 := [42, 183, 0, 3, 42, 16, 6, 188, 11, 181, 0, 9, 42, 187, 0, 15, 89, 183, 0, 17, 181, 0, 18, 42]
abbrev dktX2_init_0 : List UInt8 := dkwX2_init_0 ++ dktX2_init_1
theorem dksX2_init_0 : cX2_init.data.toList.drop 0 = dktX2_init_0 := by decide +kernel
theorem dksX2_init_1 : cX2_init.data.toList.drop 24 = dktX2_init_1 := dk_seg dksX2_init_0 24 rfl rfl
theorem dksX2_init_2 : cX2_init.data.toList.drop 46 = dktX2_init_2 := dk_seg dksX2_init_1 22 rfl rfl
theorem dX2_init_0 : decode cX2_init 0 = .ok (.aload_n 0, 1) := dk_42 (dk_at dksX2_init_0 0 rfl rfl)
theorem dX2_init_1 : decode cX2_init 1 = .ok (.invokespecial 3, 3) := dk_183 0 3 (dk_at dksX2_init_0 1 rfl rfl)
theorem dX2_init_4 : decode cX2_init 4 = .ok (.aload_n 0, 1) := dk_42 (dk_at dksX2_init_0 4 rfl rfl)
theorem dX2_init_5 : decode cX2_init 5 = .ok (.bipush 6, 2) := dk_16 6 (dk_at dksX2_init_0 5 rfl rfl)
theorem dX2_init_7 : decode cX2_init 7 = .ok (.newarray .long, 2) := dk_188_11 (dk_at dksX2_init_0 7 rfl rfl)
theorem dX2_init_9 : decode cX2_init 9 = .ok (.putfield 9, 3) := dk_181 0 9 (dk_at dksX2_init_0 9 rfl rfl)
theorem dX2_init_12 : decode cX2_init 12 = .ok (.aload_n 0, 1) := dk_42 (dk_at dksX2_init_0 12 rfl rfl)
theorem dX2_init_13 : decode cX2_init 13 = .ok (.new 15, 3) := dk_187 0 15 (dk_at dksX2_init_0 13 rfl rfl)
theorem dX2_init_16 : decode cX2_init 16 = .ok (.dup, 1) := dk_89 (dk_at dksX2_init_0 16 rfl rfl)
theorem dX2_init_17 : decode cX2_init 17 = .ok (.invokespecial 17, 3) := dk_183 0 17 (dk_at dksX2_init_0 17 rfl rfl)
theorem dX2_init_20 : decode cX2_init 20 = .ok (.putfield 18, 3) := dk_181 0 18 (dk_at dksX2_init_0 20 rfl rfl)
theorem dX2_init_23 : decode cX2_init 23 = .ok (.aload_n 0, 1) := dk_42 (dk_at dksX2_init_0 23 rfl rfl)
theorem dX2_init_24 : decode cX2_init 24 = .ok (.bipush 6, 2) := dk_16 6 (dk_at dksX2_init_1 0 rfl rfl)
theorem dX2_init_26 : decode cX2_init 26 = .ok (.newarray .int, 2) := dk_188_10 (dk_at dksX2_init_1 2 rfl rfl)
theorem dX2_init_28 : decode cX2_init 28 = .ok (.putfield 22, 3) := dk_181 0 22 (dk_at dksX2_init_1 4 rfl rfl)
theorem dX2_init_31 : decode cX2_init 31 = .ok (.aload_n 0, 1) := dk_42 (dk_at dksX2_init_1 7 rfl rfl)
theorem dX2_init_32 : decode cX2_init 32 = .ok (.bipush 6, 2) := dk_16 6 (dk_at dksX2_init_1 8 rfl rfl)
theorem dX2_init_34 : decode cX2_init 34 = .ok (.newarray .int, 2) := dk_188_10 (dk_at dksX2_init_1 10 rfl rfl)
theorem dX2_init_36 : decode cX2_init 36 = .ok (.putfield 26, 3) := dk_181 0 26 (dk_at dksX2_init_1 12 rfl rfl)
theorem dX2_init_39 : decode cX2_init 39 = .ok (.aload_n 0, 1) := dk_42 (dk_at dksX2_init_1 15 rfl rfl)
theorem dX2_init_40 : decode cX2_init 40 = .ok (.iconst 5, 1) := dk_8 (dk_at dksX2_init_1 16 rfl rfl)
theorem dX2_init_41 : decode cX2_init 41 = .ok (.putfield 29, 3) := dk_181 0 29 (dk_at dksX2_init_1 17 rfl rfl)
theorem dX2_init_44 : decode cX2_init 44 = .ok (.aload_n 0, 1) := dk_42 (dk_at dksX2_init_1 20 rfl rfl)
theorem dX2_init_45 : decode cX2_init 45 = .ok (.iconst 2, 1) := dk_5 (dk_at dksX2_init_1 21 rfl rfl)
theorem dX2_init_46 : decode cX2_init 46 = .ok (.putfield 33, 3) := dk_181 0 33 (dk_at dksX2_init_2 0 rfl rfl)
theorem dX2_init_49 : decode cX2_init 49 = .ok (.aload_n 0, 1) := dk_42 (dk_at dksX2_init_2 3 rfl rfl)
theorem dX2_init_50 : decode cX2_init 50 = .ok (.iconst 3, 1) := dk_6 (dk_at dksX2_init_2 4 rfl rfl)
theorem dX2_init_51 : decode cX2_init 51 = .ok (.putfield 36, 3) := dk_181 0 36 (dk_at dksX2_init_2 5 rfl rfl)
theorem dX2_init_54 : decode cX2_init 54 = .ok (.aload_n 0, 1) := dk_42 (dk_at dksX2_init_2 8 rfl rfl)
theorem dX2_init_55 : decode cX2_init 55 = .ok (.iconst 5, 1) := dk_8 (dk_at dksX2_init_2 9 rfl rfl)
theorem dX2_init_56 : decode cX2_init 56 = .ok (.putfield 39, 3) := dk_181 0 39 (dk_at dksX2_init_2 10 rfl rfl)
theorem dX2_init_59 : decode cX2_init 59 = .ok (.return_, 1) := dk_177 (dk_at dksX2_init_2 13 rfl rfl)
abbrev cX2_find : ByteArray := prog_3_method_2_code
def yX2_find : MethodName := ⟨RX2, "find", "(J)I"⟩
def dkwX2_find_1 : List UInt8 := [132, 3, 1, 167, 255, 232, 2, 172]
abbrev dktX2_find_1 : List UInt8 := dkwX2_find_1 ++ []
def dkwX2_find_0 : List UInt8 := [3, 62, 29, 42, 180, 0, 42, 162, 0, 22, 42, 180, 0, 9, 29, 47, 31, 148, 154, 0, 5, 29, 172]
abbrev dktX2_find_0 : List UInt8 := dkwX2_find_0 ++ dktX2_find_1
theorem dksX2_find_0 : cX2_find.data.toList.drop 0 = dktX2_find_0 := by decide +kernel
theorem dksX2_find_1 : cX2_find.data.toList.drop 23 = dktX2_find_1 := dk_seg dksX2_find_0 23 rfl rfl
theorem dX2_find_0 : decode cX2_find 0 = .ok (.iconst 0, 1) := dk_3 (dk_at dksX2_find_0 0 rfl rfl)
theorem dX2_find_1 : decode cX2_find 1 = .ok (.istore_n 3, 1) := dk_62 (dk_at dksX2_find_0 1 rfl rfl)
theorem dX2_find_2 : decode cX2_find 2 = .ok (.iload_n 3, 1) := dk_29 (dk_at dksX2_find_0 2 rfl rfl)
theorem dX2_find_3 : decode cX2_find 3 = .ok (.aload_n 0, 1) := dk_42 (dk_at dksX2_find_0 3 rfl rfl)
theorem dX2_find_4 : decode cX2_find 4 = .ok (.getfield 42, 3) := dk_180 0 42 (dk_at dksX2_find_0 4 rfl rfl)
theorem dX2_find_7 : decode cX2_find 7 = .ok (.if_icmp .ge 22, 3) := dk_162 0 22 (dk_at dksX2_find_0 7 rfl rfl)
theorem dX2_find_10 : decode cX2_find 10 = .ok (.aload_n 0, 1) := dk_42 (dk_at dksX2_find_0 10 rfl rfl)
theorem dX2_find_11 : decode cX2_find 11 = .ok (.getfield 9, 3) := dk_180 0 9 (dk_at dksX2_find_0 11 rfl rfl)
theorem dX2_find_14 : decode cX2_find 14 = .ok (.iload_n 3, 1) := dk_29 (dk_at dksX2_find_0 14 rfl rfl)
theorem dX2_find_15 : decode cX2_find 15 = .ok (.laload, 1) := dk_47 (dk_at dksX2_find_0 15 rfl rfl)
theorem dX2_find_16 : decode cX2_find 16 = .ok (.lload_n 1, 1) := dk_31 (dk_at dksX2_find_0 16 rfl rfl)
theorem dX2_find_17 : decode cX2_find 17 = .ok (.lcmp, 1) := dk_148 (dk_at dksX2_find_0 17 rfl rfl)
theorem dX2_find_18 : decode cX2_find 18 = .ok (.ifCond .ne 5, 3) := dk_154 0 5 (dk_at dksX2_find_0 18 rfl rfl)
theorem dX2_find_21 : decode cX2_find 21 = .ok (.iload_n 3, 1) := dk_29 (dk_at dksX2_find_0 21 rfl rfl)
theorem dX2_find_22 : decode cX2_find 22 = .ok (.ireturn, 1) := dk_172 (dk_at dksX2_find_0 22 rfl rfl)
theorem dX2_find_23 : decode cX2_find 23 = .ok (.iinc 3 1, 3) := dk_132 3 1 (dk_at dksX2_find_1 0 rfl rfl)
theorem dX2_find_26 : decode cX2_find 26 = .ok (.goto (-24), 3) := dk_167 255 232 (dk_at dksX2_find_1 3 rfl rfl)
theorem dX2_find_29 : decode cX2_find 29 = .ok (.iconst (-1), 1) := dk_2 (dk_at dksX2_find_1 6 rfl rfl)
theorem dX2_find_30 : decode cX2_find 30 = .ok (.ireturn, 1) := dk_172 (dk_at dksX2_find_1 7 rfl rfl)
abbrev cX2_between : ByteArray := prog_3_method_4_code
def yX2_between : MethodName := ⟨RX2, "between", "(II)LSlimeNet$Pipe;"⟩
def dkwX2_between_3 : List UInt8 := [167, 255, 190, 1, 176]
abbrev dktX2_between_3 : List UInt8 := dkwX2_between_3 ++ []
def dkwX2_between_2 : List UInt8 := [180, 0, 58, 28, 160, 0, 15, 25, 4, 180, 0, 61, 27, 160, 0, 6, 25, 4, 176, 132, 3, 1]
abbrev dktX2_between_2 : List UInt8 := dkwX2_between_2 ++ dktX2_between_3
def dkwX2_between_1 : List UInt8 := [58, 4, 25, 4, 180, 0, 58, 27, 160, 0, 12, 25, 4, 180, 0, 61, 28, 159, 0, 21, 25, 4]
abbrev dktX2_between_1 : List UInt8 := dkwX2_between_1 ++ dktX2_between_2
def dkwX2_between_0 : List UInt8 := [3, 62, 29, 42, 180, 0, 18, 182, 0, 48, 162, 0, 61, 42, 180, 0, 18, 29, 182, 0, 52, 192, 0, 56]
abbrev dktX2_between_0 : List UInt8 := dkwX2_between_0 ++ dktX2_between_1
theorem dksX2_between_0 : cX2_between.data.toList.drop 0 = dktX2_between_0 := by decide +kernel
theorem dksX2_between_1 : cX2_between.data.toList.drop 24 = dktX2_between_1 := dk_seg dksX2_between_0 24 rfl rfl
theorem dksX2_between_2 : cX2_between.data.toList.drop 46 = dktX2_between_2 := dk_seg dksX2_between_1 22 rfl rfl
theorem dksX2_between_3 : cX2_between.data.toList.drop 68 = dktX2_between_3 := dk_seg dksX2_between_2 22 rfl rfl
theorem dX2_between_0 : decode cX2_between 0 = .ok (.iconst 0, 1) := dk_3 (dk_at dksX2_between_0 0 rfl rfl)
theorem dX2_between_1 : decode cX2_between 1 = .ok (.istore_n 3, 1) := dk_62 (dk_at dksX2_between_0 1 rfl rfl)
theorem dX2_between_2 : decode cX2_between 2 = .ok (.iload_n 3, 1) := dk_29 (dk_at dksX2_between_0 2 rfl rfl)
theorem dX2_between_3 : decode cX2_between 3 = .ok (.aload_n 0, 1) := dk_42 (dk_at dksX2_between_0 3 rfl rfl)
theorem dX2_between_4 : decode cX2_between 4 = .ok (.getfield 18, 3) := dk_180 0 18 (dk_at dksX2_between_0 4 rfl rfl)
theorem dX2_between_7 : decode cX2_between 7 = .ok (.invokevirtual 48, 3) := dk_182 0 48 (dk_at dksX2_between_0 7 rfl rfl)
theorem dX2_between_10 : decode cX2_between 10 = .ok (.if_icmp .ge 61, 3) := dk_162 0 61 (dk_at dksX2_between_0 10 rfl rfl)
theorem dX2_between_13 : decode cX2_between 13 = .ok (.aload_n 0, 1) := dk_42 (dk_at dksX2_between_0 13 rfl rfl)
theorem dX2_between_14 : decode cX2_between 14 = .ok (.getfield 18, 3) := dk_180 0 18 (dk_at dksX2_between_0 14 rfl rfl)
theorem dX2_between_17 : decode cX2_between 17 = .ok (.iload_n 3, 1) := dk_29 (dk_at dksX2_between_0 17 rfl rfl)
theorem dX2_between_18 : decode cX2_between 18 = .ok (.invokevirtual 52, 3) := dk_182 0 52 (dk_at dksX2_between_0 18 rfl rfl)
theorem dX2_between_21 : decode cX2_between 21 = .ok (.checkcast 56, 3) := dk_192 0 56 (dk_at dksX2_between_0 21 rfl rfl)
theorem dX2_between_24 : decode cX2_between 24 = .ok (.astore 4, 2) := dk_58 4 (dk_at dksX2_between_1 0 rfl rfl)
theorem dX2_between_26 : decode cX2_between 26 = .ok (.aload 4, 2) := dk_25 4 (dk_at dksX2_between_1 2 rfl rfl)
theorem dX2_between_28 : decode cX2_between 28 = .ok (.getfield 58, 3) := dk_180 0 58 (dk_at dksX2_between_1 4 rfl rfl)
theorem dX2_between_31 : decode cX2_between 31 = .ok (.iload_n 1, 1) := dk_27 (dk_at dksX2_between_1 7 rfl rfl)
theorem dX2_between_32 : decode cX2_between 32 = .ok (.if_icmp .ne 12, 3) := dk_160 0 12 (dk_at dksX2_between_1 8 rfl rfl)
theorem dX2_between_35 : decode cX2_between 35 = .ok (.aload 4, 2) := dk_25 4 (dk_at dksX2_between_1 11 rfl rfl)
theorem dX2_between_37 : decode cX2_between 37 = .ok (.getfield 61, 3) := dk_180 0 61 (dk_at dksX2_between_1 13 rfl rfl)
theorem dX2_between_40 : decode cX2_between 40 = .ok (.iload_n 2, 1) := dk_28 (dk_at dksX2_between_1 16 rfl rfl)
theorem dX2_between_41 : decode cX2_between 41 = .ok (.if_icmp .eq 21, 3) := dk_159 0 21 (dk_at dksX2_between_1 17 rfl rfl)
theorem dX2_between_44 : decode cX2_between 44 = .ok (.aload 4, 2) := dk_25 4 (dk_at dksX2_between_1 20 rfl rfl)
theorem dX2_between_46 : decode cX2_between 46 = .ok (.getfield 58, 3) := dk_180 0 58 (dk_at dksX2_between_2 0 rfl rfl)
theorem dX2_between_49 : decode cX2_between 49 = .ok (.iload_n 2, 1) := dk_28 (dk_at dksX2_between_2 3 rfl rfl)
theorem dX2_between_50 : decode cX2_between 50 = .ok (.if_icmp .ne 15, 3) := dk_160 0 15 (dk_at dksX2_between_2 4 rfl rfl)
theorem dX2_between_53 : decode cX2_between 53 = .ok (.aload 4, 2) := dk_25 4 (dk_at dksX2_between_2 7 rfl rfl)
theorem dX2_between_55 : decode cX2_between 55 = .ok (.getfield 61, 3) := dk_180 0 61 (dk_at dksX2_between_2 9 rfl rfl)
theorem dX2_between_58 : decode cX2_between 58 = .ok (.iload_n 1, 1) := dk_27 (dk_at dksX2_between_2 12 rfl rfl)
theorem dX2_between_59 : decode cX2_between 59 = .ok (.if_icmp .ne 6, 3) := dk_160 0 6 (dk_at dksX2_between_2 13 rfl rfl)
theorem dX2_between_62 : decode cX2_between 62 = .ok (.aload 4, 2) := dk_25 4 (dk_at dksX2_between_2 16 rfl rfl)
theorem dX2_between_64 : decode cX2_between 64 = .ok (.areturn, 1) := dk_176 (dk_at dksX2_between_2 18 rfl rfl)
theorem dX2_between_65 : decode cX2_between 65 = .ok (.iinc 3 1, 3) := dk_132 3 1 (dk_at dksX2_between_2 19 rfl rfl)
theorem dX2_between_68 : decode cX2_between 68 = .ok (.goto (-66), 3) := dk_167 255 190 (dk_at dksX2_between_3 0 rfl rfl)
theorem dX2_between_71 : decode cX2_between 71 = .ok (.aconst_null, 1) := dk_1 (dk_at dksX2_between_3 3 rfl rfl)
theorem dX2_between_72 : decode cX2_between 72 = .ok (.areturn, 1) := dk_176 (dk_at dksX2_between_3 4 rfl rfl)
abbrev cX2_isFlake : ByteArray := prog_3_method_3_code
def yX2_isFlake : MethodName := ⟨RX2, "isFlake", "(I)Z"⟩
def dkwX2_isFlake_1 : List UInt8 := [132, 2, 1, 167, 255, 233, 3, 172]
abbrev dktX2_isFlake_1 : List UInt8 := dkwX2_isFlake_1 ++ []
def dkwX2_isFlake_0 : List UInt8 := [3, 61, 28, 42, 180, 0, 45, 162, 0, 21, 42, 180, 0, 22, 28, 46, 27, 160, 0, 5, 4, 172]
abbrev dktX2_isFlake_0 : List UInt8 := dkwX2_isFlake_0 ++ dktX2_isFlake_1
theorem dksX2_isFlake_0 : cX2_isFlake.data.toList.drop 0 = dktX2_isFlake_0 := by decide +kernel
theorem dksX2_isFlake_1 : cX2_isFlake.data.toList.drop 22 = dktX2_isFlake_1 := dk_seg dksX2_isFlake_0 22 rfl rfl
theorem dX2_isFlake_0 : decode cX2_isFlake 0 = .ok (.iconst 0, 1) := dk_3 (dk_at dksX2_isFlake_0 0 rfl rfl)
theorem dX2_isFlake_1 : decode cX2_isFlake 1 = .ok (.istore_n 2, 1) := dk_61 (dk_at dksX2_isFlake_0 1 rfl rfl)
theorem dX2_isFlake_2 : decode cX2_isFlake 2 = .ok (.iload_n 2, 1) := dk_28 (dk_at dksX2_isFlake_0 2 rfl rfl)
theorem dX2_isFlake_3 : decode cX2_isFlake 3 = .ok (.aload_n 0, 1) := dk_42 (dk_at dksX2_isFlake_0 3 rfl rfl)
theorem dX2_isFlake_4 : decode cX2_isFlake 4 = .ok (.getfield 45, 3) := dk_180 0 45 (dk_at dksX2_isFlake_0 4 rfl rfl)
theorem dX2_isFlake_7 : decode cX2_isFlake 7 = .ok (.if_icmp .ge 21, 3) := dk_162 0 21 (dk_at dksX2_isFlake_0 7 rfl rfl)
theorem dX2_isFlake_10 : decode cX2_isFlake 10 = .ok (.aload_n 0, 1) := dk_42 (dk_at dksX2_isFlake_0 10 rfl rfl)
theorem dX2_isFlake_11 : decode cX2_isFlake 11 = .ok (.getfield 22, 3) := dk_180 0 22 (dk_at dksX2_isFlake_0 11 rfl rfl)
theorem dX2_isFlake_14 : decode cX2_isFlake 14 = .ok (.iload_n 2, 1) := dk_28 (dk_at dksX2_isFlake_0 14 rfl rfl)
theorem dX2_isFlake_15 : decode cX2_isFlake 15 = .ok (.iaload, 1) := dk_46 (dk_at dksX2_isFlake_0 15 rfl rfl)
theorem dX2_isFlake_16 : decode cX2_isFlake 16 = .ok (.iload_n 1, 1) := dk_27 (dk_at dksX2_isFlake_0 16 rfl rfl)
theorem dX2_isFlake_17 : decode cX2_isFlake 17 = .ok (.if_icmp .ne 5, 3) := dk_160 0 5 (dk_at dksX2_isFlake_0 17 rfl rfl)
theorem dX2_isFlake_20 : decode cX2_isFlake 20 = .ok (.iconst 1, 1) := dk_4 (dk_at dksX2_isFlake_0 20 rfl rfl)
theorem dX2_isFlake_21 : decode cX2_isFlake 21 = .ok (.ireturn, 1) := dk_172 (dk_at dksX2_isFlake_0 21 rfl rfl)
theorem dX2_isFlake_22 : decode cX2_isFlake 22 = .ok (.iinc 2 1, 3) := dk_132 2 1 (dk_at dksX2_isFlake_1 0 rfl rfl)
theorem dX2_isFlake_25 : decode cX2_isFlake 25 = .ok (.goto (-23), 3) := dk_167 255 233 (dk_at dksX2_isFlake_1 3 rfl rfl)
theorem dX2_isFlake_28 : decode cX2_isFlake 28 = .ok (.iconst 0, 1) := dk_3 (dk_at dksX2_isFlake_1 6 rfl rfl)
theorem dX2_isFlake_29 : decode cX2_isFlake 29 = .ok (.ireturn, 1) := dk_172 (dk_at dksX2_isFlake_1 7 rfl rfl)
abbrev cX2_pairs : ByteArray := prog_3_method_5_code
def yX2_pairs : MethodName := ⟨RX2, "pairs", "()I"⟩
def dkwX2_pairs_0 : List UInt8 := [42, 180, 0, 45, 42, 180, 0, 45, 4, 100, 104, 5, 108, 172]
abbrev dktX2_pairs_0 : List UInt8 := dkwX2_pairs_0 ++ []
theorem dksX2_pairs_0 : cX2_pairs.data.toList.drop 0 = dktX2_pairs_0 := by decide +kernel
theorem dX2_pairs_0 : decode cX2_pairs 0 = .ok (.aload_n 0, 1) := dk_42 (dk_at dksX2_pairs_0 0 rfl rfl)
theorem dX2_pairs_1 : decode cX2_pairs 1 = .ok (.getfield 45, 3) := dk_180 0 45 (dk_at dksX2_pairs_0 1 rfl rfl)
theorem dX2_pairs_4 : decode cX2_pairs 4 = .ok (.aload_n 0, 1) := dk_42 (dk_at dksX2_pairs_0 4 rfl rfl)
theorem dX2_pairs_5 : decode cX2_pairs 5 = .ok (.getfield 45, 3) := dk_180 0 45 (dk_at dksX2_pairs_0 5 rfl rfl)
theorem dX2_pairs_8 : decode cX2_pairs 8 = .ok (.iconst 1, 1) := dk_4 (dk_at dksX2_pairs_0 8 rfl rfl)
theorem dX2_pairs_9 : decode cX2_pairs 9 = .ok (.isub, 1) := dk_100 (dk_at dksX2_pairs_0 9 rfl rfl)
theorem dX2_pairs_10 : decode cX2_pairs 10 = .ok (.imul, 1) := dk_104 (dk_at dksX2_pairs_0 10 rfl rfl)
theorem dX2_pairs_11 : decode cX2_pairs 11 = .ok (.iconst 2, 1) := dk_5 (dk_at dksX2_pairs_0 11 rfl rfl)
theorem dX2_pairs_12 : decode cX2_pairs 12 = .ok (.idiv, 1) := dk_108 (dk_at dksX2_pairs_0 12 rfl rfl)
theorem dX2_pairs_13 : decode cX2_pairs 13 = .ok (.ireturn, 1) := dk_172 (dk_at dksX2_pairs_0 13 rfl rfl)
abbrev cX2_joined : ByteArray := prog_3_method_6_code
def yX2_joined : MethodName := ⟨RX2, "joined", "(II)I"⟩
def dkwX2_joined_4 : List UInt8 := [132, 5, 1, 167, 255, 178, 167, 255, 163, 29, 172]
abbrev dktX2_joined_4 : List UInt8 := dkwX2_joined_4 ++ []
def dkwX2_joined_3 : List UInt8 := [122, 4, 126, 159, 0, 21, 29, 4, 25, 6, 180, 0, 58, 120, 4, 25, 6, 180, 0, 61, 120, 128, 128, 62]
abbrev dktX2_joined_3 : List UInt8 := dkwX2_joined_3 ++ dktX2_joined_4
def dkwX2_joined_2 : List UInt8 := [21, 5, 122, 4, 126, 4, 160, 0, 42, 29, 25, 6, 180, 0, 58, 122, 4, 126, 29, 25, 6, 180, 0, 61]
abbrev dktX2_joined_2 : List UInt8 := dkwX2_joined_2 ++ dktX2_joined_3
def dkwX2_joined_1 : List UInt8 := [180, 0, 18, 182, 0, 48, 162, 0, 72, 42, 180, 0, 18, 21, 5, 182, 0, 52, 192, 0, 56, 58, 6, 27]
abbrev dktX2_joined_1 : List UInt8 := dkwX2_joined_1 ++ dktX2_joined_2
def dkwX2_joined_0 : List UInt8 := [4, 28, 120, 62, 3, 54, 4, 21, 4, 29, 159, 0, 93, 29, 54, 4, 3, 54, 5, 21, 5, 42]
abbrev dktX2_joined_0 : List UInt8 := dkwX2_joined_0 ++ dktX2_joined_1
theorem dksX2_joined_0 : cX2_joined.data.toList.drop 0 = dktX2_joined_0 := by decide +kernel
theorem dksX2_joined_1 : cX2_joined.data.toList.drop 22 = dktX2_joined_1 := dk_seg dksX2_joined_0 22 rfl rfl
theorem dksX2_joined_2 : cX2_joined.data.toList.drop 46 = dktX2_joined_2 := dk_seg dksX2_joined_1 24 rfl rfl
theorem dksX2_joined_3 : cX2_joined.data.toList.drop 70 = dktX2_joined_3 := dk_seg dksX2_joined_2 24 rfl rfl
theorem dksX2_joined_4 : cX2_joined.data.toList.drop 94 = dktX2_joined_4 := dk_seg dksX2_joined_3 24 rfl rfl
theorem dX2_joined_0 : decode cX2_joined 0 = .ok (.iconst 1, 1) := dk_4 (dk_at dksX2_joined_0 0 rfl rfl)
theorem dX2_joined_1 : decode cX2_joined 1 = .ok (.iload_n 2, 1) := dk_28 (dk_at dksX2_joined_0 1 rfl rfl)
theorem dX2_joined_2 : decode cX2_joined 2 = .ok (.ishl, 1) := dk_120 (dk_at dksX2_joined_0 2 rfl rfl)
theorem dX2_joined_3 : decode cX2_joined 3 = .ok (.istore_n 3, 1) := dk_62 (dk_at dksX2_joined_0 3 rfl rfl)
theorem dX2_joined_4 : decode cX2_joined 4 = .ok (.iconst 0, 1) := dk_3 (dk_at dksX2_joined_0 4 rfl rfl)
theorem dX2_joined_5 : decode cX2_joined 5 = .ok (.istore 4, 2) := dk_54 4 (dk_at dksX2_joined_0 5 rfl rfl)
theorem dX2_joined_7 : decode cX2_joined 7 = .ok (.iload 4, 2) := dk_21 4 (dk_at dksX2_joined_0 7 rfl rfl)
theorem dX2_joined_9 : decode cX2_joined 9 = .ok (.iload_n 3, 1) := dk_29 (dk_at dksX2_joined_0 9 rfl rfl)
theorem dX2_joined_10 : decode cX2_joined 10 = .ok (.if_icmp .eq 93, 3) := dk_159 0 93 (dk_at dksX2_joined_0 10 rfl rfl)
theorem dX2_joined_13 : decode cX2_joined 13 = .ok (.iload_n 3, 1) := dk_29 (dk_at dksX2_joined_0 13 rfl rfl)
theorem dX2_joined_14 : decode cX2_joined 14 = .ok (.istore 4, 2) := dk_54 4 (dk_at dksX2_joined_0 14 rfl rfl)
theorem dX2_joined_16 : decode cX2_joined 16 = .ok (.iconst 0, 1) := dk_3 (dk_at dksX2_joined_0 16 rfl rfl)
theorem dX2_joined_17 : decode cX2_joined 17 = .ok (.istore 5, 2) := dk_54 5 (dk_at dksX2_joined_0 17 rfl rfl)
theorem dX2_joined_19 : decode cX2_joined 19 = .ok (.iload 5, 2) := dk_21 5 (dk_at dksX2_joined_0 19 rfl rfl)
theorem dX2_joined_21 : decode cX2_joined 21 = .ok (.aload_n 0, 1) := dk_42 (dk_at dksX2_joined_0 21 rfl rfl)
theorem dX2_joined_22 : decode cX2_joined 22 = .ok (.getfield 18, 3) := dk_180 0 18 (dk_at dksX2_joined_1 0 rfl rfl)
theorem dX2_joined_25 : decode cX2_joined 25 = .ok (.invokevirtual 48, 3) := dk_182 0 48 (dk_at dksX2_joined_1 3 rfl rfl)
theorem dX2_joined_28 : decode cX2_joined 28 = .ok (.if_icmp .ge 72, 3) := dk_162 0 72 (dk_at dksX2_joined_1 6 rfl rfl)
theorem dX2_joined_31 : decode cX2_joined 31 = .ok (.aload_n 0, 1) := dk_42 (dk_at dksX2_joined_1 9 rfl rfl)
theorem dX2_joined_32 : decode cX2_joined 32 = .ok (.getfield 18, 3) := dk_180 0 18 (dk_at dksX2_joined_1 10 rfl rfl)
theorem dX2_joined_35 : decode cX2_joined 35 = .ok (.iload 5, 2) := dk_21 5 (dk_at dksX2_joined_1 13 rfl rfl)
theorem dX2_joined_37 : decode cX2_joined 37 = .ok (.invokevirtual 52, 3) := dk_182 0 52 (dk_at dksX2_joined_1 15 rfl rfl)
theorem dX2_joined_40 : decode cX2_joined 40 = .ok (.checkcast 56, 3) := dk_192 0 56 (dk_at dksX2_joined_1 18 rfl rfl)
theorem dX2_joined_43 : decode cX2_joined 43 = .ok (.astore 6, 2) := dk_58 6 (dk_at dksX2_joined_1 21 rfl rfl)
theorem dX2_joined_45 : decode cX2_joined 45 = .ok (.iload_n 1, 1) := dk_27 (dk_at dksX2_joined_1 23 rfl rfl)
theorem dX2_joined_46 : decode cX2_joined 46 = .ok (.iload 5, 2) := dk_21 5 (dk_at dksX2_joined_2 0 rfl rfl)
theorem dX2_joined_48 : decode cX2_joined 48 = .ok (.ishr, 1) := dk_122 (dk_at dksX2_joined_2 2 rfl rfl)
theorem dX2_joined_49 : decode cX2_joined 49 = .ok (.iconst 1, 1) := dk_4 (dk_at dksX2_joined_2 3 rfl rfl)
theorem dX2_joined_50 : decode cX2_joined 50 = .ok (.iand, 1) := dk_126 (dk_at dksX2_joined_2 4 rfl rfl)
theorem dX2_joined_51 : decode cX2_joined 51 = .ok (.iconst 1, 1) := dk_4 (dk_at dksX2_joined_2 5 rfl rfl)
theorem dX2_joined_52 : decode cX2_joined 52 = .ok (.if_icmp .ne 42, 3) := dk_160 0 42 (dk_at dksX2_joined_2 6 rfl rfl)
theorem dX2_joined_55 : decode cX2_joined 55 = .ok (.iload_n 3, 1) := dk_29 (dk_at dksX2_joined_2 9 rfl rfl)
theorem dX2_joined_56 : decode cX2_joined 56 = .ok (.aload 6, 2) := dk_25 6 (dk_at dksX2_joined_2 10 rfl rfl)
theorem dX2_joined_58 : decode cX2_joined 58 = .ok (.getfield 58, 3) := dk_180 0 58 (dk_at dksX2_joined_2 12 rfl rfl)
theorem dX2_joined_61 : decode cX2_joined 61 = .ok (.ishr, 1) := dk_122 (dk_at dksX2_joined_2 15 rfl rfl)
theorem dX2_joined_62 : decode cX2_joined 62 = .ok (.iconst 1, 1) := dk_4 (dk_at dksX2_joined_2 16 rfl rfl)
theorem dX2_joined_63 : decode cX2_joined 63 = .ok (.iand, 1) := dk_126 (dk_at dksX2_joined_2 17 rfl rfl)
theorem dX2_joined_64 : decode cX2_joined 64 = .ok (.iload_n 3, 1) := dk_29 (dk_at dksX2_joined_2 18 rfl rfl)
theorem dX2_joined_65 : decode cX2_joined 65 = .ok (.aload 6, 2) := dk_25 6 (dk_at dksX2_joined_2 19 rfl rfl)
theorem dX2_joined_67 : decode cX2_joined 67 = .ok (.getfield 61, 3) := dk_180 0 61 (dk_at dksX2_joined_2 21 rfl rfl)
theorem dX2_joined_70 : decode cX2_joined 70 = .ok (.ishr, 1) := dk_122 (dk_at dksX2_joined_3 0 rfl rfl)
theorem dX2_joined_71 : decode cX2_joined 71 = .ok (.iconst 1, 1) := dk_4 (dk_at dksX2_joined_3 1 rfl rfl)
theorem dX2_joined_72 : decode cX2_joined 72 = .ok (.iand, 1) := dk_126 (dk_at dksX2_joined_3 2 rfl rfl)
theorem dX2_joined_73 : decode cX2_joined 73 = .ok (.if_icmp .eq 21, 3) := dk_159 0 21 (dk_at dksX2_joined_3 3 rfl rfl)
theorem dX2_joined_76 : decode cX2_joined 76 = .ok (.iload_n 3, 1) := dk_29 (dk_at dksX2_joined_3 6 rfl rfl)
theorem dX2_joined_77 : decode cX2_joined 77 = .ok (.iconst 1, 1) := dk_4 (dk_at dksX2_joined_3 7 rfl rfl)
theorem dX2_joined_78 : decode cX2_joined 78 = .ok (.aload 6, 2) := dk_25 6 (dk_at dksX2_joined_3 8 rfl rfl)
theorem dX2_joined_80 : decode cX2_joined 80 = .ok (.getfield 58, 3) := dk_180 0 58 (dk_at dksX2_joined_3 10 rfl rfl)
theorem dX2_joined_83 : decode cX2_joined 83 = .ok (.ishl, 1) := dk_120 (dk_at dksX2_joined_3 13 rfl rfl)
theorem dX2_joined_84 : decode cX2_joined 84 = .ok (.iconst 1, 1) := dk_4 (dk_at dksX2_joined_3 14 rfl rfl)
theorem dX2_joined_85 : decode cX2_joined 85 = .ok (.aload 6, 2) := dk_25 6 (dk_at dksX2_joined_3 15 rfl rfl)
theorem dX2_joined_87 : decode cX2_joined 87 = .ok (.getfield 61, 3) := dk_180 0 61 (dk_at dksX2_joined_3 17 rfl rfl)
theorem dX2_joined_90 : decode cX2_joined 90 = .ok (.ishl, 1) := dk_120 (dk_at dksX2_joined_3 20 rfl rfl)
theorem dX2_joined_91 : decode cX2_joined 91 = .ok (.ior, 1) := dk_128 (dk_at dksX2_joined_3 21 rfl rfl)
theorem dX2_joined_92 : decode cX2_joined 92 = .ok (.ior, 1) := dk_128 (dk_at dksX2_joined_3 22 rfl rfl)
theorem dX2_joined_93 : decode cX2_joined 93 = .ok (.istore_n 3, 1) := dk_62 (dk_at dksX2_joined_3 23 rfl rfl)
theorem dX2_joined_94 : decode cX2_joined 94 = .ok (.iinc 5 1, 3) := dk_132 5 1 (dk_at dksX2_joined_4 0 rfl rfl)
theorem dX2_joined_97 : decode cX2_joined 97 = .ok (.goto (-78), 3) := dk_167 255 178 (dk_at dksX2_joined_4 3 rfl rfl)
theorem dX2_joined_100 : decode cX2_joined 100 = .ok (.goto (-93), 3) := dk_167 255 163 (dk_at dksX2_joined_4 6 rfl rfl)
theorem dX2_joined_103 : decode cX2_joined 103 = .ok (.iload_n 3, 1) := dk_29 (dk_at dksX2_joined_4 9 rfl rfl)
theorem dX2_joined_104 : decode cX2_joined 104 = .ok (.ireturn, 1) := dk_172 (dk_at dksX2_joined_4 10 rfl rfl)
abbrev cX2_length : ByteArray := prog_3_method_8_code
def yX2_length : MethodName := ⟨RX2, "length", "(I)I"⟩
def dkwX2_length_2 : List UInt8 := [132, 3, 1, 167, 255, 212, 28, 172]
abbrev dktX2_length_2 : List UInt8 := dkwX2_length_2 ++ []
def dkwX2_length_1 : List UInt8 := [160, 0, 20, 42, 180, 0, 18, 29, 182, 0, 52, 192, 0, 56, 180, 0, 68, 167, 0, 4, 3, 96, 61]
abbrev dktX2_length_1 : List UInt8 := dkwX2_length_1 ++ dktX2_length_2
def dkwX2_length_0 : List UInt8 := [3, 61, 3, 62, 29, 42, 180, 0, 18, 182, 0, 48, 162, 0, 39, 28, 27, 29, 122, 4, 126, 4]
abbrev dktX2_length_0 : List UInt8 := dkwX2_length_0 ++ dktX2_length_1
theorem dksX2_length_0 : cX2_length.data.toList.drop 0 = dktX2_length_0 := by decide +kernel
theorem dksX2_length_1 : cX2_length.data.toList.drop 22 = dktX2_length_1 := dk_seg dksX2_length_0 22 rfl rfl
theorem dksX2_length_2 : cX2_length.data.toList.drop 45 = dktX2_length_2 := dk_seg dksX2_length_1 23 rfl rfl
theorem dX2_length_0 : decode cX2_length 0 = .ok (.iconst 0, 1) := dk_3 (dk_at dksX2_length_0 0 rfl rfl)
theorem dX2_length_1 : decode cX2_length 1 = .ok (.istore_n 2, 1) := dk_61 (dk_at dksX2_length_0 1 rfl rfl)
theorem dX2_length_2 : decode cX2_length 2 = .ok (.iconst 0, 1) := dk_3 (dk_at dksX2_length_0 2 rfl rfl)
theorem dX2_length_3 : decode cX2_length 3 = .ok (.istore_n 3, 1) := dk_62 (dk_at dksX2_length_0 3 rfl rfl)
theorem dX2_length_4 : decode cX2_length 4 = .ok (.iload_n 3, 1) := dk_29 (dk_at dksX2_length_0 4 rfl rfl)
theorem dX2_length_5 : decode cX2_length 5 = .ok (.aload_n 0, 1) := dk_42 (dk_at dksX2_length_0 5 rfl rfl)
theorem dX2_length_6 : decode cX2_length 6 = .ok (.getfield 18, 3) := dk_180 0 18 (dk_at dksX2_length_0 6 rfl rfl)
theorem dX2_length_9 : decode cX2_length 9 = .ok (.invokevirtual 48, 3) := dk_182 0 48 (dk_at dksX2_length_0 9 rfl rfl)
theorem dX2_length_12 : decode cX2_length 12 = .ok (.if_icmp .ge 39, 3) := dk_162 0 39 (dk_at dksX2_length_0 12 rfl rfl)
theorem dX2_length_15 : decode cX2_length 15 = .ok (.iload_n 2, 1) := dk_28 (dk_at dksX2_length_0 15 rfl rfl)
theorem dX2_length_16 : decode cX2_length 16 = .ok (.iload_n 1, 1) := dk_27 (dk_at dksX2_length_0 16 rfl rfl)
theorem dX2_length_17 : decode cX2_length 17 = .ok (.iload_n 3, 1) := dk_29 (dk_at dksX2_length_0 17 rfl rfl)
theorem dX2_length_18 : decode cX2_length 18 = .ok (.ishr, 1) := dk_122 (dk_at dksX2_length_0 18 rfl rfl)
theorem dX2_length_19 : decode cX2_length 19 = .ok (.iconst 1, 1) := dk_4 (dk_at dksX2_length_0 19 rfl rfl)
theorem dX2_length_20 : decode cX2_length 20 = .ok (.iand, 1) := dk_126 (dk_at dksX2_length_0 20 rfl rfl)
theorem dX2_length_21 : decode cX2_length 21 = .ok (.iconst 1, 1) := dk_4 (dk_at dksX2_length_0 21 rfl rfl)
theorem dX2_length_22 : decode cX2_length 22 = .ok (.if_icmp .ne 20, 3) := dk_160 0 20 (dk_at dksX2_length_1 0 rfl rfl)
theorem dX2_length_25 : decode cX2_length 25 = .ok (.aload_n 0, 1) := dk_42 (dk_at dksX2_length_1 3 rfl rfl)
theorem dX2_length_26 : decode cX2_length 26 = .ok (.getfield 18, 3) := dk_180 0 18 (dk_at dksX2_length_1 4 rfl rfl)
theorem dX2_length_29 : decode cX2_length 29 = .ok (.iload_n 3, 1) := dk_29 (dk_at dksX2_length_1 7 rfl rfl)
theorem dX2_length_30 : decode cX2_length 30 = .ok (.invokevirtual 52, 3) := dk_182 0 52 (dk_at dksX2_length_1 8 rfl rfl)
theorem dX2_length_33 : decode cX2_length 33 = .ok (.checkcast 56, 3) := dk_192 0 56 (dk_at dksX2_length_1 11 rfl rfl)
theorem dX2_length_36 : decode cX2_length 36 = .ok (.getfield 68, 3) := dk_180 0 68 (dk_at dksX2_length_1 14 rfl rfl)
theorem dX2_length_39 : decode cX2_length 39 = .ok (.goto 4, 3) := dk_167 0 4 (dk_at dksX2_length_1 17 rfl rfl)
theorem dX2_length_42 : decode cX2_length 42 = .ok (.iconst 0, 1) := dk_3 (dk_at dksX2_length_1 20 rfl rfl)
theorem dX2_length_43 : decode cX2_length 43 = .ok (.iadd, 1) := dk_96 (dk_at dksX2_length_1 21 rfl rfl)
theorem dX2_length_44 : decode cX2_length 44 = .ok (.istore_n 2, 1) := dk_61 (dk_at dksX2_length_1 22 rfl rfl)
theorem dX2_length_45 : decode cX2_length 45 = .ok (.iinc 3 1, 3) := dk_132 3 1 (dk_at dksX2_length_2 0 rfl rfl)
theorem dX2_length_48 : decode cX2_length 48 = .ok (.goto (-44), 3) := dk_167 255 212 (dk_at dksX2_length_2 3 rfl rfl)
theorem dX2_length_51 : decode cX2_length 51 = .ok (.iload_n 2, 1) := dk_28 (dk_at dksX2_length_2 6 rfl rfl)
theorem dX2_length_52 : decode cX2_length 52 = .ok (.ireturn, 1) := dk_172 (dk_at dksX2_length_2 7 rfl rfl)
abbrev cX2_joins : ByteArray := prog_3_method_7_code
def yX2_joins : MethodName := ⟨RX2, "joins", "(I)Z"⟩
def dkwX2_joins_2 : List UInt8 := [132, 3, 1, 167, 255, 230, 4, 172]
abbrev dktX2_joins_2 : List UInt8 := dkwX2_joins_2 ++ []
def dkwX2_joins_1 : List UInt8 := [42, 180, 0, 45, 162, 0, 24, 28, 42, 180, 0, 22, 29, 46, 122, 4, 126, 154, 0, 5, 3, 172]
abbrev dktX2_joins_1 : List UInt8 := dkwX2_joins_1 ++ dktX2_joins_2
def dkwX2_joins_0 : List UInt8 := [42, 180, 0, 45, 154, 0, 5, 4, 172, 42, 27, 42, 180, 0, 22, 3, 46, 182, 0, 64, 61, 4, 62, 29]
abbrev dktX2_joins_0 : List UInt8 := dkwX2_joins_0 ++ dktX2_joins_1
theorem dksX2_joins_0 : cX2_joins.data.toList.drop 0 = dktX2_joins_0 := by decide +kernel
theorem dksX2_joins_1 : cX2_joins.data.toList.drop 24 = dktX2_joins_1 := dk_seg dksX2_joins_0 24 rfl rfl
theorem dksX2_joins_2 : cX2_joins.data.toList.drop 46 = dktX2_joins_2 := dk_seg dksX2_joins_1 22 rfl rfl
theorem dX2_joins_0 : decode cX2_joins 0 = .ok (.aload_n 0, 1) := dk_42 (dk_at dksX2_joins_0 0 rfl rfl)
theorem dX2_joins_1 : decode cX2_joins 1 = .ok (.getfield 45, 3) := dk_180 0 45 (dk_at dksX2_joins_0 1 rfl rfl)
theorem dX2_joins_4 : decode cX2_joins 4 = .ok (.ifCond .ne 5, 3) := dk_154 0 5 (dk_at dksX2_joins_0 4 rfl rfl)
theorem dX2_joins_7 : decode cX2_joins 7 = .ok (.iconst 1, 1) := dk_4 (dk_at dksX2_joins_0 7 rfl rfl)
theorem dX2_joins_8 : decode cX2_joins 8 = .ok (.ireturn, 1) := dk_172 (dk_at dksX2_joins_0 8 rfl rfl)
theorem dX2_joins_9 : decode cX2_joins 9 = .ok (.aload_n 0, 1) := dk_42 (dk_at dksX2_joins_0 9 rfl rfl)
theorem dX2_joins_10 : decode cX2_joins 10 = .ok (.iload_n 1, 1) := dk_27 (dk_at dksX2_joins_0 10 rfl rfl)
theorem dX2_joins_11 : decode cX2_joins 11 = .ok (.aload_n 0, 1) := dk_42 (dk_at dksX2_joins_0 11 rfl rfl)
theorem dX2_joins_12 : decode cX2_joins 12 = .ok (.getfield 22, 3) := dk_180 0 22 (dk_at dksX2_joins_0 12 rfl rfl)
theorem dX2_joins_15 : decode cX2_joins 15 = .ok (.iconst 0, 1) := dk_3 (dk_at dksX2_joins_0 15 rfl rfl)
theorem dX2_joins_16 : decode cX2_joins 16 = .ok (.iaload, 1) := dk_46 (dk_at dksX2_joins_0 16 rfl rfl)
theorem dX2_joins_17 : decode cX2_joins 17 = .ok (.invokevirtual 64, 3) := dk_182 0 64 (dk_at dksX2_joins_0 17 rfl rfl)
theorem dX2_joins_20 : decode cX2_joins 20 = .ok (.istore_n 2, 1) := dk_61 (dk_at dksX2_joins_0 20 rfl rfl)
theorem dX2_joins_21 : decode cX2_joins 21 = .ok (.iconst 1, 1) := dk_4 (dk_at dksX2_joins_0 21 rfl rfl)
theorem dX2_joins_22 : decode cX2_joins 22 = .ok (.istore_n 3, 1) := dk_62 (dk_at dksX2_joins_0 22 rfl rfl)
theorem dX2_joins_23 : decode cX2_joins 23 = .ok (.iload_n 3, 1) := dk_29 (dk_at dksX2_joins_0 23 rfl rfl)
theorem dX2_joins_24 : decode cX2_joins 24 = .ok (.aload_n 0, 1) := dk_42 (dk_at dksX2_joins_1 0 rfl rfl)
theorem dX2_joins_25 : decode cX2_joins 25 = .ok (.getfield 45, 3) := dk_180 0 45 (dk_at dksX2_joins_1 1 rfl rfl)
theorem dX2_joins_28 : decode cX2_joins 28 = .ok (.if_icmp .ge 24, 3) := dk_162 0 24 (dk_at dksX2_joins_1 4 rfl rfl)
theorem dX2_joins_31 : decode cX2_joins 31 = .ok (.iload_n 2, 1) := dk_28 (dk_at dksX2_joins_1 7 rfl rfl)
theorem dX2_joins_32 : decode cX2_joins 32 = .ok (.aload_n 0, 1) := dk_42 (dk_at dksX2_joins_1 8 rfl rfl)
theorem dX2_joins_33 : decode cX2_joins 33 = .ok (.getfield 22, 3) := dk_180 0 22 (dk_at dksX2_joins_1 9 rfl rfl)
theorem dX2_joins_36 : decode cX2_joins 36 = .ok (.iload_n 3, 1) := dk_29 (dk_at dksX2_joins_1 12 rfl rfl)
theorem dX2_joins_37 : decode cX2_joins 37 = .ok (.iaload, 1) := dk_46 (dk_at dksX2_joins_1 13 rfl rfl)
theorem dX2_joins_38 : decode cX2_joins 38 = .ok (.ishr, 1) := dk_122 (dk_at dksX2_joins_1 14 rfl rfl)
theorem dX2_joins_39 : decode cX2_joins 39 = .ok (.iconst 1, 1) := dk_4 (dk_at dksX2_joins_1 15 rfl rfl)
theorem dX2_joins_40 : decode cX2_joins 40 = .ok (.iand, 1) := dk_126 (dk_at dksX2_joins_1 16 rfl rfl)
theorem dX2_joins_41 : decode cX2_joins 41 = .ok (.ifCond .ne 5, 3) := dk_154 0 5 (dk_at dksX2_joins_1 17 rfl rfl)
theorem dX2_joins_44 : decode cX2_joins 44 = .ok (.iconst 0, 1) := dk_3 (dk_at dksX2_joins_1 20 rfl rfl)
theorem dX2_joins_45 : decode cX2_joins 45 = .ok (.ireturn, 1) := dk_172 (dk_at dksX2_joins_1 21 rfl rfl)
theorem dX2_joins_46 : decode cX2_joins 46 = .ok (.iinc 3 1, 3) := dk_132 3 1 (dk_at dksX2_joins_2 0 rfl rfl)
theorem dX2_joins_49 : decode cX2_joins 49 = .ok (.goto (-26), 3) := dk_167 255 230 (dk_at dksX2_joins_2 3 rfl rfl)
theorem dX2_joins_52 : decode cX2_joins 52 = .ok (.iconst 1, 1) := dk_4 (dk_at dksX2_joins_2 6 rfl rfl)
theorem dX2_joins_53 : decode cX2_joins 53 = .ok (.ireturn, 1) := dk_172 (dk_at dksX2_joins_2 7 rfl rfl)
abbrev cX2_sure : ByteArray := prog_3_method_9_code
def yX2_sure : MethodName := ⟨RX2, "sure", "(I)I"⟩
def dkwX2_sure_2 : List UInt8 := [153, 0, 7, 4, 167, 0, 4, 3, 96, 61, 132, 3, 1, 167, 255, 211, 28, 172]
abbrev dktX2_sure_2 : List UInt8 := dkwX2_sure_2 ++ []
def dkwX2_sure_1 : List UInt8 := [162, 0, 40, 28, 27, 29, 122, 4, 126, 4, 160, 0, 21, 42, 27, 4, 29, 120, 2, 130, 126, 182, 0, 71]
abbrev dktX2_sure_1 : List UInt8 := dkwX2_sure_1 ++ dktX2_sure_2
def dkwX2_sure_0 : List UInt8 := [42, 27, 182, 0, 71, 154, 0, 5, 3, 172, 3, 61, 3, 62, 29, 42, 180, 0, 18, 182, 0, 48]
abbrev dktX2_sure_0 : List UInt8 := dkwX2_sure_0 ++ dktX2_sure_1
theorem dksX2_sure_0 : cX2_sure.data.toList.drop 0 = dktX2_sure_0 := by decide +kernel
theorem dksX2_sure_1 : cX2_sure.data.toList.drop 22 = dktX2_sure_1 := dk_seg dksX2_sure_0 22 rfl rfl
theorem dksX2_sure_2 : cX2_sure.data.toList.drop 46 = dktX2_sure_2 := dk_seg dksX2_sure_1 24 rfl rfl
theorem dX2_sure_0 : decode cX2_sure 0 = .ok (.aload_n 0, 1) := dk_42 (dk_at dksX2_sure_0 0 rfl rfl)
theorem dX2_sure_1 : decode cX2_sure 1 = .ok (.iload_n 1, 1) := dk_27 (dk_at dksX2_sure_0 1 rfl rfl)
theorem dX2_sure_2 : decode cX2_sure 2 = .ok (.invokevirtual 71, 3) := dk_182 0 71 (dk_at dksX2_sure_0 2 rfl rfl)
theorem dX2_sure_5 : decode cX2_sure 5 = .ok (.ifCond .ne 5, 3) := dk_154 0 5 (dk_at dksX2_sure_0 5 rfl rfl)
theorem dX2_sure_8 : decode cX2_sure 8 = .ok (.iconst 0, 1) := dk_3 (dk_at dksX2_sure_0 8 rfl rfl)
theorem dX2_sure_9 : decode cX2_sure 9 = .ok (.ireturn, 1) := dk_172 (dk_at dksX2_sure_0 9 rfl rfl)
theorem dX2_sure_10 : decode cX2_sure 10 = .ok (.iconst 0, 1) := dk_3 (dk_at dksX2_sure_0 10 rfl rfl)
theorem dX2_sure_11 : decode cX2_sure 11 = .ok (.istore_n 2, 1) := dk_61 (dk_at dksX2_sure_0 11 rfl rfl)
theorem dX2_sure_12 : decode cX2_sure 12 = .ok (.iconst 0, 1) := dk_3 (dk_at dksX2_sure_0 12 rfl rfl)
theorem dX2_sure_13 : decode cX2_sure 13 = .ok (.istore_n 3, 1) := dk_62 (dk_at dksX2_sure_0 13 rfl rfl)
theorem dX2_sure_14 : decode cX2_sure 14 = .ok (.iload_n 3, 1) := dk_29 (dk_at dksX2_sure_0 14 rfl rfl)
theorem dX2_sure_15 : decode cX2_sure 15 = .ok (.aload_n 0, 1) := dk_42 (dk_at dksX2_sure_0 15 rfl rfl)
theorem dX2_sure_16 : decode cX2_sure 16 = .ok (.getfield 18, 3) := dk_180 0 18 (dk_at dksX2_sure_0 16 rfl rfl)
theorem dX2_sure_19 : decode cX2_sure 19 = .ok (.invokevirtual 48, 3) := dk_182 0 48 (dk_at dksX2_sure_0 19 rfl rfl)
theorem dX2_sure_22 : decode cX2_sure 22 = .ok (.if_icmp .ge 40, 3) := dk_162 0 40 (dk_at dksX2_sure_1 0 rfl rfl)
theorem dX2_sure_25 : decode cX2_sure 25 = .ok (.iload_n 2, 1) := dk_28 (dk_at dksX2_sure_1 3 rfl rfl)
theorem dX2_sure_26 : decode cX2_sure 26 = .ok (.iload_n 1, 1) := dk_27 (dk_at dksX2_sure_1 4 rfl rfl)
theorem dX2_sure_27 : decode cX2_sure 27 = .ok (.iload_n 3, 1) := dk_29 (dk_at dksX2_sure_1 5 rfl rfl)
theorem dX2_sure_28 : decode cX2_sure 28 = .ok (.ishr, 1) := dk_122 (dk_at dksX2_sure_1 6 rfl rfl)
theorem dX2_sure_29 : decode cX2_sure 29 = .ok (.iconst 1, 1) := dk_4 (dk_at dksX2_sure_1 7 rfl rfl)
theorem dX2_sure_30 : decode cX2_sure 30 = .ok (.iand, 1) := dk_126 (dk_at dksX2_sure_1 8 rfl rfl)
theorem dX2_sure_31 : decode cX2_sure 31 = .ok (.iconst 1, 1) := dk_4 (dk_at dksX2_sure_1 9 rfl rfl)
theorem dX2_sure_32 : decode cX2_sure 32 = .ok (.if_icmp .ne 21, 3) := dk_160 0 21 (dk_at dksX2_sure_1 10 rfl rfl)
theorem dX2_sure_35 : decode cX2_sure 35 = .ok (.aload_n 0, 1) := dk_42 (dk_at dksX2_sure_1 13 rfl rfl)
theorem dX2_sure_36 : decode cX2_sure 36 = .ok (.iload_n 1, 1) := dk_27 (dk_at dksX2_sure_1 14 rfl rfl)
theorem dX2_sure_37 : decode cX2_sure 37 = .ok (.iconst 1, 1) := dk_4 (dk_at dksX2_sure_1 15 rfl rfl)
theorem dX2_sure_38 : decode cX2_sure 38 = .ok (.iload_n 3, 1) := dk_29 (dk_at dksX2_sure_1 16 rfl rfl)
theorem dX2_sure_39 : decode cX2_sure 39 = .ok (.ishl, 1) := dk_120 (dk_at dksX2_sure_1 17 rfl rfl)
theorem dX2_sure_40 : decode cX2_sure 40 = .ok (.iconst (-1), 1) := dk_2 (dk_at dksX2_sure_1 18 rfl rfl)
theorem dX2_sure_41 : decode cX2_sure 41 = .ok (.ixor, 1) := dk_130 (dk_at dksX2_sure_1 19 rfl rfl)
theorem dX2_sure_42 : decode cX2_sure 42 = .ok (.iand, 1) := dk_126 (dk_at dksX2_sure_1 20 rfl rfl)
theorem dX2_sure_43 : decode cX2_sure 43 = .ok (.invokevirtual 71, 3) := dk_182 0 71 (dk_at dksX2_sure_1 21 rfl rfl)
theorem dX2_sure_46 : decode cX2_sure 46 = .ok (.ifCond .eq 7, 3) := dk_153 0 7 (dk_at dksX2_sure_2 0 rfl rfl)
theorem dX2_sure_49 : decode cX2_sure 49 = .ok (.iconst 1, 1) := dk_4 (dk_at dksX2_sure_2 3 rfl rfl)
theorem dX2_sure_50 : decode cX2_sure 50 = .ok (.goto 4, 3) := dk_167 0 4 (dk_at dksX2_sure_2 4 rfl rfl)
theorem dX2_sure_53 : decode cX2_sure 53 = .ok (.iconst 0, 1) := dk_3 (dk_at dksX2_sure_2 7 rfl rfl)
theorem dX2_sure_54 : decode cX2_sure 54 = .ok (.iadd, 1) := dk_96 (dk_at dksX2_sure_2 8 rfl rfl)
theorem dX2_sure_55 : decode cX2_sure 55 = .ok (.istore_n 2, 1) := dk_61 (dk_at dksX2_sure_2 9 rfl rfl)
theorem dX2_sure_56 : decode cX2_sure 56 = .ok (.iinc 3 1, 3) := dk_132 3 1 (dk_at dksX2_sure_2 10 rfl rfl)
theorem dX2_sure_59 : decode cX2_sure 59 = .ok (.goto (-45), 3) := dk_167 255 211 (dk_at dksX2_sure_2 13 rfl rfl)
theorem dX2_sure_62 : decode cX2_sure 62 = .ok (.iload_n 2, 1) := dk_28 (dk_at dksX2_sure_2 16 rfl rfl)
theorem dX2_sure_63 : decode cX2_sure 63 = .ok (.ireturn, 1) := dk_172 (dk_at dksX2_sure_2 17 rfl rfl)
abbrev cX2_ways : ByteArray := prog_3_method_11_code
def yX2_ways : MethodName := ⟨RX2, "ways", "(I)I"⟩
def dkwX2_ways_2 : List UInt8 := [132, 4, 1, 167, 255, 223, 132, 3, 1, 167, 255, 204, 28, 172]
abbrev dktX2_ways_2 : List UInt8 := dkwX2_ways_2 ++ []
def dkwX2_ways_1 : List UInt8 := [162, 0, 30, 28, 42, 27, 42, 180, 0, 22, 29, 46, 42, 180, 0, 22, 21, 4, 46, 182, 0, 86, 96, 61]
abbrev dktX2_ways_1 : List UInt8 := dkwX2_ways_1 ++ dktX2_ways_2
def dkwX2_ways_0 : List UInt8 := [3, 61, 3, 62, 29, 42, 180, 0, 45, 162, 0, 50, 29, 4, 96, 54, 4, 21, 4, 42, 180, 0, 45]
abbrev dktX2_ways_0 : List UInt8 := dkwX2_ways_0 ++ dktX2_ways_1
theorem dksX2_ways_0 : cX2_ways.data.toList.drop 0 = dktX2_ways_0 := by decide +kernel
theorem dksX2_ways_1 : cX2_ways.data.toList.drop 23 = dktX2_ways_1 := dk_seg dksX2_ways_0 23 rfl rfl
theorem dksX2_ways_2 : cX2_ways.data.toList.drop 47 = dktX2_ways_2 := dk_seg dksX2_ways_1 24 rfl rfl
theorem dX2_ways_0 : decode cX2_ways 0 = .ok (.iconst 0, 1) := dk_3 (dk_at dksX2_ways_0 0 rfl rfl)
theorem dX2_ways_1 : decode cX2_ways 1 = .ok (.istore_n 2, 1) := dk_61 (dk_at dksX2_ways_0 1 rfl rfl)
theorem dX2_ways_2 : decode cX2_ways 2 = .ok (.iconst 0, 1) := dk_3 (dk_at dksX2_ways_0 2 rfl rfl)
theorem dX2_ways_3 : decode cX2_ways 3 = .ok (.istore_n 3, 1) := dk_62 (dk_at dksX2_ways_0 3 rfl rfl)
theorem dX2_ways_4 : decode cX2_ways 4 = .ok (.iload_n 3, 1) := dk_29 (dk_at dksX2_ways_0 4 rfl rfl)
theorem dX2_ways_5 : decode cX2_ways 5 = .ok (.aload_n 0, 1) := dk_42 (dk_at dksX2_ways_0 5 rfl rfl)
theorem dX2_ways_6 : decode cX2_ways 6 = .ok (.getfield 45, 3) := dk_180 0 45 (dk_at dksX2_ways_0 6 rfl rfl)
theorem dX2_ways_9 : decode cX2_ways 9 = .ok (.if_icmp .ge 50, 3) := dk_162 0 50 (dk_at dksX2_ways_0 9 rfl rfl)
theorem dX2_ways_12 : decode cX2_ways 12 = .ok (.iload_n 3, 1) := dk_29 (dk_at dksX2_ways_0 12 rfl rfl)
theorem dX2_ways_13 : decode cX2_ways 13 = .ok (.iconst 1, 1) := dk_4 (dk_at dksX2_ways_0 13 rfl rfl)
theorem dX2_ways_14 : decode cX2_ways 14 = .ok (.iadd, 1) := dk_96 (dk_at dksX2_ways_0 14 rfl rfl)
theorem dX2_ways_15 : decode cX2_ways 15 = .ok (.istore 4, 2) := dk_54 4 (dk_at dksX2_ways_0 15 rfl rfl)
theorem dX2_ways_17 : decode cX2_ways 17 = .ok (.iload 4, 2) := dk_21 4 (dk_at dksX2_ways_0 17 rfl rfl)
theorem dX2_ways_19 : decode cX2_ways 19 = .ok (.aload_n 0, 1) := dk_42 (dk_at dksX2_ways_0 19 rfl rfl)
theorem dX2_ways_20 : decode cX2_ways 20 = .ok (.getfield 45, 3) := dk_180 0 45 (dk_at dksX2_ways_0 20 rfl rfl)
theorem dX2_ways_23 : decode cX2_ways 23 = .ok (.if_icmp .ge 30, 3) := dk_162 0 30 (dk_at dksX2_ways_1 0 rfl rfl)
theorem dX2_ways_26 : decode cX2_ways 26 = .ok (.iload_n 2, 1) := dk_28 (dk_at dksX2_ways_1 3 rfl rfl)
theorem dX2_ways_27 : decode cX2_ways 27 = .ok (.aload_n 0, 1) := dk_42 (dk_at dksX2_ways_1 4 rfl rfl)
theorem dX2_ways_28 : decode cX2_ways 28 = .ok (.iload_n 1, 1) := dk_27 (dk_at dksX2_ways_1 5 rfl rfl)
theorem dX2_ways_29 : decode cX2_ways 29 = .ok (.aload_n 0, 1) := dk_42 (dk_at dksX2_ways_1 6 rfl rfl)
theorem dX2_ways_30 : decode cX2_ways 30 = .ok (.getfield 22, 3) := dk_180 0 22 (dk_at dksX2_ways_1 7 rfl rfl)
theorem dX2_ways_33 : decode cX2_ways 33 = .ok (.iload_n 3, 1) := dk_29 (dk_at dksX2_ways_1 10 rfl rfl)
theorem dX2_ways_34 : decode cX2_ways 34 = .ok (.iaload, 1) := dk_46 (dk_at dksX2_ways_1 11 rfl rfl)
theorem dX2_ways_35 : decode cX2_ways 35 = .ok (.aload_n 0, 1) := dk_42 (dk_at dksX2_ways_1 12 rfl rfl)
theorem dX2_ways_36 : decode cX2_ways 36 = .ok (.getfield 22, 3) := dk_180 0 22 (dk_at dksX2_ways_1 13 rfl rfl)
theorem dX2_ways_39 : decode cX2_ways 39 = .ok (.iload 4, 2) := dk_21 4 (dk_at dksX2_ways_1 16 rfl rfl)
theorem dX2_ways_41 : decode cX2_ways 41 = .ok (.iaload, 1) := dk_46 (dk_at dksX2_ways_1 18 rfl rfl)
theorem dX2_ways_42 : decode cX2_ways 42 = .ok (.invokevirtual 86, 3) := dk_182 0 86 (dk_at dksX2_ways_1 19 rfl rfl)
theorem dX2_ways_45 : decode cX2_ways 45 = .ok (.iadd, 1) := dk_96 (dk_at dksX2_ways_1 22 rfl rfl)
theorem dX2_ways_46 : decode cX2_ways 46 = .ok (.istore_n 2, 1) := dk_61 (dk_at dksX2_ways_1 23 rfl rfl)
theorem dX2_ways_47 : decode cX2_ways 47 = .ok (.iinc 4 1, 3) := dk_132 4 1 (dk_at dksX2_ways_2 0 rfl rfl)
theorem dX2_ways_50 : decode cX2_ways 50 = .ok (.goto (-33), 3) := dk_167 255 223 (dk_at dksX2_ways_2 3 rfl rfl)
theorem dX2_ways_53 : decode cX2_ways 53 = .ok (.iinc 3 1, 3) := dk_132 3 1 (dk_at dksX2_ways_2 6 rfl rfl)
theorem dX2_ways_56 : decode cX2_ways 56 = .ok (.goto (-52), 3) := dk_167 255 204 (dk_at dksX2_ways_2 9 rfl rfl)
theorem dX2_ways_59 : decode cX2_ways 59 = .ok (.iload_n 2, 1) := dk_28 (dk_at dksX2_ways_2 12 rfl rfl)
theorem dX2_ways_60 : decode cX2_ways 60 = .ok (.ireturn, 1) := dk_172 (dk_at dksX2_ways_2 13 rfl rfl)
abbrev cX2_way : ByteArray := prog_3_method_10_code
def yX2_way : MethodName := ⟨RX2, "way", "(III)I"⟩
def dkwX2_way_7 : List UInt8 := [180, 0, 26, 29, 46, 172]
abbrev dktX2_way_7 : List UInt8 := dkwX2_way_7 ++ []
def dkwX2_way_6 : List UInt8 := [46, 25, 6, 180, 0, 68, 96, 184, 0, 81, 79, 132, 5, 1, 167, 255, 137, 132, 4, 1, 167, 255, 119, 42]
abbrev dktX2_way_6 : List UInt8 := dkwX2_way_6 ++ dktX2_way_7
def dkwX2_way_5 : List UInt8 := [25, 6, 180, 0, 58, 42, 180, 0, 26, 25, 6, 180, 0, 58, 46, 42, 180, 0, 26, 25, 6, 180, 0, 61]
abbrev dktX2_way_5 : List UInt8 := dkwX2_way_5 ++ dktX2_way_6
def dkwX2_way_4 : List UInt8 := [180, 0, 26, 25, 6, 180, 0, 58, 46, 25, 6, 180, 0, 68, 96, 184, 0, 81, 79, 42, 180, 0, 26]
abbrev dktX2_way_4 : List UInt8 := dkwX2_way_4 ++ dktX2_way_5
def dkwX2_way_3 : List UInt8 := [167, 0, 81, 42, 180, 0, 26, 25, 6, 180, 0, 61, 42, 180, 0, 26, 25, 6, 180, 0, 61, 46, 42]
abbrev dktX2_way_3 : List UInt8 := dkwX2_way_3 ++ dktX2_way_4
def dkwX2_way_2 : List UInt8 := [180, 0, 18, 21, 5, 182, 0, 52, 192, 0, 56, 58, 6, 27, 21, 5, 122, 4, 126, 154, 0, 6]
abbrev dktX2_way_2 : List UInt8 := dkwX2_way_2 ++ dktX2_way_3
def dkwX2_way_1 : List UInt8 := [180, 0, 42, 162, 0, 134, 3, 54, 5, 21, 5, 42, 180, 0, 18, 182, 0, 48, 162, 0, 113, 42]
abbrev dktX2_way_1 : List UInt8 := dkwX2_way_1 ++ dktX2_way_2
def dkwX2_way_0 : List UInt8 := [42, 180, 0, 26, 17, 3, 232, 184, 0, 75, 42, 180, 0, 26, 28, 3, 79, 3, 54, 4, 21, 4, 42]
abbrev dktX2_way_0 : List UInt8 := dkwX2_way_0 ++ dktX2_way_1
theorem dksX2_way_0 : cX2_way.data.toList.drop 0 = dktX2_way_0 := by decide +kernel
theorem dksX2_way_1 : cX2_way.data.toList.drop 23 = dktX2_way_1 := dk_seg dksX2_way_0 23 rfl rfl
theorem dksX2_way_2 : cX2_way.data.toList.drop 45 = dktX2_way_2 := dk_seg dksX2_way_1 22 rfl rfl
theorem dksX2_way_3 : cX2_way.data.toList.drop 67 = dktX2_way_3 := dk_seg dksX2_way_2 22 rfl rfl
theorem dksX2_way_4 : cX2_way.data.toList.drop 90 = dktX2_way_4 := dk_seg dksX2_way_3 23 rfl rfl
theorem dksX2_way_5 : cX2_way.data.toList.drop 113 = dktX2_way_5 := dk_seg dksX2_way_4 23 rfl rfl
theorem dksX2_way_6 : cX2_way.data.toList.drop 137 = dktX2_way_6 := dk_seg dksX2_way_5 24 rfl rfl
theorem dksX2_way_7 : cX2_way.data.toList.drop 161 = dktX2_way_7 := dk_seg dksX2_way_6 24 rfl rfl
theorem dX2_way_0 : decode cX2_way 0 = .ok (.aload_n 0, 1) := dk_42 (dk_at dksX2_way_0 0 rfl rfl)
theorem dX2_way_1 : decode cX2_way 1 = .ok (.getfield 26, 3) := dk_180 0 26 (dk_at dksX2_way_0 1 rfl rfl)
theorem dX2_way_4 : decode cX2_way 4 = .ok (.sipush 1000, 3) := dk_17 3 232 (dk_at dksX2_way_0 4 rfl rfl)
theorem dX2_way_7 : decode cX2_way 7 = .ok (.invokestatic 75, 3) := dk_184 0 75 (dk_at dksX2_way_0 7 rfl rfl)
theorem dX2_way_10 : decode cX2_way 10 = .ok (.aload_n 0, 1) := dk_42 (dk_at dksX2_way_0 10 rfl rfl)
theorem dX2_way_11 : decode cX2_way 11 = .ok (.getfield 26, 3) := dk_180 0 26 (dk_at dksX2_way_0 11 rfl rfl)
theorem dX2_way_14 : decode cX2_way 14 = .ok (.iload_n 2, 1) := dk_28 (dk_at dksX2_way_0 14 rfl rfl)
theorem dX2_way_15 : decode cX2_way 15 = .ok (.iconst 0, 1) := dk_3 (dk_at dksX2_way_0 15 rfl rfl)
theorem dX2_way_16 : decode cX2_way 16 = .ok (.iastore, 1) := dk_79 (dk_at dksX2_way_0 16 rfl rfl)
theorem dX2_way_17 : decode cX2_way 17 = .ok (.iconst 0, 1) := dk_3 (dk_at dksX2_way_0 17 rfl rfl)
theorem dX2_way_18 : decode cX2_way 18 = .ok (.istore 4, 2) := dk_54 4 (dk_at dksX2_way_0 18 rfl rfl)
theorem dX2_way_20 : decode cX2_way 20 = .ok (.iload 4, 2) := dk_21 4 (dk_at dksX2_way_0 20 rfl rfl)
theorem dX2_way_22 : decode cX2_way 22 = .ok (.aload_n 0, 1) := dk_42 (dk_at dksX2_way_0 22 rfl rfl)
theorem dX2_way_23 : decode cX2_way 23 = .ok (.getfield 42, 3) := dk_180 0 42 (dk_at dksX2_way_1 0 rfl rfl)
theorem dX2_way_26 : decode cX2_way 26 = .ok (.if_icmp .ge 134, 3) := dk_162 0 134 (dk_at dksX2_way_1 3 rfl rfl)
theorem dX2_way_29 : decode cX2_way 29 = .ok (.iconst 0, 1) := dk_3 (dk_at dksX2_way_1 6 rfl rfl)
theorem dX2_way_30 : decode cX2_way 30 = .ok (.istore 5, 2) := dk_54 5 (dk_at dksX2_way_1 7 rfl rfl)
theorem dX2_way_32 : decode cX2_way 32 = .ok (.iload 5, 2) := dk_21 5 (dk_at dksX2_way_1 9 rfl rfl)
theorem dX2_way_34 : decode cX2_way 34 = .ok (.aload_n 0, 1) := dk_42 (dk_at dksX2_way_1 11 rfl rfl)
theorem dX2_way_35 : decode cX2_way 35 = .ok (.getfield 18, 3) := dk_180 0 18 (dk_at dksX2_way_1 12 rfl rfl)
theorem dX2_way_38 : decode cX2_way 38 = .ok (.invokevirtual 48, 3) := dk_182 0 48 (dk_at dksX2_way_1 15 rfl rfl)
theorem dX2_way_41 : decode cX2_way 41 = .ok (.if_icmp .ge 113, 3) := dk_162 0 113 (dk_at dksX2_way_1 18 rfl rfl)
theorem dX2_way_44 : decode cX2_way 44 = .ok (.aload_n 0, 1) := dk_42 (dk_at dksX2_way_1 21 rfl rfl)
theorem dX2_way_45 : decode cX2_way 45 = .ok (.getfield 18, 3) := dk_180 0 18 (dk_at dksX2_way_2 0 rfl rfl)
theorem dX2_way_48 : decode cX2_way 48 = .ok (.iload 5, 2) := dk_21 5 (dk_at dksX2_way_2 3 rfl rfl)
theorem dX2_way_50 : decode cX2_way 50 = .ok (.invokevirtual 52, 3) := dk_182 0 52 (dk_at dksX2_way_2 5 rfl rfl)
theorem dX2_way_53 : decode cX2_way 53 = .ok (.checkcast 56, 3) := dk_192 0 56 (dk_at dksX2_way_2 8 rfl rfl)
theorem dX2_way_56 : decode cX2_way 56 = .ok (.astore 6, 2) := dk_58 6 (dk_at dksX2_way_2 11 rfl rfl)
theorem dX2_way_58 : decode cX2_way 58 = .ok (.iload_n 1, 1) := dk_27 (dk_at dksX2_way_2 13 rfl rfl)
theorem dX2_way_59 : decode cX2_way 59 = .ok (.iload 5, 2) := dk_21 5 (dk_at dksX2_way_2 14 rfl rfl)
theorem dX2_way_61 : decode cX2_way 61 = .ok (.ishr, 1) := dk_122 (dk_at dksX2_way_2 16 rfl rfl)
theorem dX2_way_62 : decode cX2_way 62 = .ok (.iconst 1, 1) := dk_4 (dk_at dksX2_way_2 17 rfl rfl)
theorem dX2_way_63 : decode cX2_way 63 = .ok (.iand, 1) := dk_126 (dk_at dksX2_way_2 18 rfl rfl)
theorem dX2_way_64 : decode cX2_way 64 = .ok (.ifCond .ne 6, 3) := dk_154 0 6 (dk_at dksX2_way_2 19 rfl rfl)
theorem dX2_way_67 : decode cX2_way 67 = .ok (.goto 81, 3) := dk_167 0 81 (dk_at dksX2_way_3 0 rfl rfl)
theorem dX2_way_70 : decode cX2_way 70 = .ok (.aload_n 0, 1) := dk_42 (dk_at dksX2_way_3 3 rfl rfl)
theorem dX2_way_71 : decode cX2_way 71 = .ok (.getfield 26, 3) := dk_180 0 26 (dk_at dksX2_way_3 4 rfl rfl)
theorem dX2_way_74 : decode cX2_way 74 = .ok (.aload 6, 2) := dk_25 6 (dk_at dksX2_way_3 7 rfl rfl)
theorem dX2_way_76 : decode cX2_way 76 = .ok (.getfield 61, 3) := dk_180 0 61 (dk_at dksX2_way_3 9 rfl rfl)
theorem dX2_way_79 : decode cX2_way 79 = .ok (.aload_n 0, 1) := dk_42 (dk_at dksX2_way_3 12 rfl rfl)
theorem dX2_way_80 : decode cX2_way 80 = .ok (.getfield 26, 3) := dk_180 0 26 (dk_at dksX2_way_3 13 rfl rfl)
theorem dX2_way_83 : decode cX2_way 83 = .ok (.aload 6, 2) := dk_25 6 (dk_at dksX2_way_3 16 rfl rfl)
theorem dX2_way_85 : decode cX2_way 85 = .ok (.getfield 61, 3) := dk_180 0 61 (dk_at dksX2_way_3 18 rfl rfl)
theorem dX2_way_88 : decode cX2_way 88 = .ok (.iaload, 1) := dk_46 (dk_at dksX2_way_3 21 rfl rfl)
theorem dX2_way_89 : decode cX2_way 89 = .ok (.aload_n 0, 1) := dk_42 (dk_at dksX2_way_3 22 rfl rfl)
theorem dX2_way_90 : decode cX2_way 90 = .ok (.getfield 26, 3) := dk_180 0 26 (dk_at dksX2_way_4 0 rfl rfl)
theorem dX2_way_93 : decode cX2_way 93 = .ok (.aload 6, 2) := dk_25 6 (dk_at dksX2_way_4 3 rfl rfl)
theorem dX2_way_95 : decode cX2_way 95 = .ok (.getfield 58, 3) := dk_180 0 58 (dk_at dksX2_way_4 5 rfl rfl)
theorem dX2_way_98 : decode cX2_way 98 = .ok (.iaload, 1) := dk_46 (dk_at dksX2_way_4 8 rfl rfl)
theorem dX2_way_99 : decode cX2_way 99 = .ok (.aload 6, 2) := dk_25 6 (dk_at dksX2_way_4 9 rfl rfl)
theorem dX2_way_101 : decode cX2_way 101 = .ok (.getfield 68, 3) := dk_180 0 68 (dk_at dksX2_way_4 11 rfl rfl)
theorem dX2_way_104 : decode cX2_way 104 = .ok (.iadd, 1) := dk_96 (dk_at dksX2_way_4 14 rfl rfl)
theorem dX2_way_105 : decode cX2_way 105 = .ok (.invokestatic 81, 3) := dk_184 0 81 (dk_at dksX2_way_4 15 rfl rfl)
theorem dX2_way_108 : decode cX2_way 108 = .ok (.iastore, 1) := dk_79 (dk_at dksX2_way_4 18 rfl rfl)
theorem dX2_way_109 : decode cX2_way 109 = .ok (.aload_n 0, 1) := dk_42 (dk_at dksX2_way_4 19 rfl rfl)
theorem dX2_way_110 : decode cX2_way 110 = .ok (.getfield 26, 3) := dk_180 0 26 (dk_at dksX2_way_4 20 rfl rfl)
theorem dX2_way_113 : decode cX2_way 113 = .ok (.aload 6, 2) := dk_25 6 (dk_at dksX2_way_5 0 rfl rfl)
theorem dX2_way_115 : decode cX2_way 115 = .ok (.getfield 58, 3) := dk_180 0 58 (dk_at dksX2_way_5 2 rfl rfl)
theorem dX2_way_118 : decode cX2_way 118 = .ok (.aload_n 0, 1) := dk_42 (dk_at dksX2_way_5 5 rfl rfl)
theorem dX2_way_119 : decode cX2_way 119 = .ok (.getfield 26, 3) := dk_180 0 26 (dk_at dksX2_way_5 6 rfl rfl)
theorem dX2_way_122 : decode cX2_way 122 = .ok (.aload 6, 2) := dk_25 6 (dk_at dksX2_way_5 9 rfl rfl)
theorem dX2_way_124 : decode cX2_way 124 = .ok (.getfield 58, 3) := dk_180 0 58 (dk_at dksX2_way_5 11 rfl rfl)
theorem dX2_way_127 : decode cX2_way 127 = .ok (.iaload, 1) := dk_46 (dk_at dksX2_way_5 14 rfl rfl)
theorem dX2_way_128 : decode cX2_way 128 = .ok (.aload_n 0, 1) := dk_42 (dk_at dksX2_way_5 15 rfl rfl)
theorem dX2_way_129 : decode cX2_way 129 = .ok (.getfield 26, 3) := dk_180 0 26 (dk_at dksX2_way_5 16 rfl rfl)
theorem dX2_way_132 : decode cX2_way 132 = .ok (.aload 6, 2) := dk_25 6 (dk_at dksX2_way_5 19 rfl rfl)
theorem dX2_way_134 : decode cX2_way 134 = .ok (.getfield 61, 3) := dk_180 0 61 (dk_at dksX2_way_5 21 rfl rfl)
theorem dX2_way_137 : decode cX2_way 137 = .ok (.iaload, 1) := dk_46 (dk_at dksX2_way_6 0 rfl rfl)
theorem dX2_way_138 : decode cX2_way 138 = .ok (.aload 6, 2) := dk_25 6 (dk_at dksX2_way_6 1 rfl rfl)
theorem dX2_way_140 : decode cX2_way 140 = .ok (.getfield 68, 3) := dk_180 0 68 (dk_at dksX2_way_6 3 rfl rfl)
theorem dX2_way_143 : decode cX2_way 143 = .ok (.iadd, 1) := dk_96 (dk_at dksX2_way_6 6 rfl rfl)
theorem dX2_way_144 : decode cX2_way 144 = .ok (.invokestatic 81, 3) := dk_184 0 81 (dk_at dksX2_way_6 7 rfl rfl)
theorem dX2_way_147 : decode cX2_way 147 = .ok (.iastore, 1) := dk_79 (dk_at dksX2_way_6 10 rfl rfl)
theorem dX2_way_148 : decode cX2_way 148 = .ok (.iinc 5 1, 3) := dk_132 5 1 (dk_at dksX2_way_6 11 rfl rfl)
theorem dX2_way_151 : decode cX2_way 151 = .ok (.goto (-119), 3) := dk_167 255 137 (dk_at dksX2_way_6 14 rfl rfl)
theorem dX2_way_154 : decode cX2_way 154 = .ok (.iinc 4 1, 3) := dk_132 4 1 (dk_at dksX2_way_6 17 rfl rfl)
theorem dX2_way_157 : decode cX2_way 157 = .ok (.goto (-137), 3) := dk_167 255 119 (dk_at dksX2_way_6 20 rfl rfl)
theorem dX2_way_160 : decode cX2_way 160 = .ok (.aload_n 0, 1) := dk_42 (dk_at dksX2_way_6 23 rfl rfl)
theorem dX2_way_161 : decode cX2_way 161 = .ok (.getfield 26, 3) := dk_180 0 26 (dk_at dksX2_way_7 0 rfl rfl)
theorem dX2_way_164 : decode cX2_way 164 = .ok (.iload_n 3, 1) := dk_29 (dk_at dksX2_way_7 3 rfl rfl)
theorem dX2_way_165 : decode cX2_way 165 = .ok (.iaload, 1) := dk_46 (dk_at dksX2_way_7 4 rfl rfl)
theorem dX2_way_166 : decode cX2_way 166 = .ok (.ireturn, 1) := dk_172 (dk_at dksX2_way_7 5 rfl rfl)
theorem q74 : (Jvm.Cond.initialized "SlimeNet$Plate") ∈ lw_all := lw_g (lw_at lw_m1 5 rfl) rfl
theorem q169 : (Jvm.Cond.instantiable "SlimeNet$Plate" (11 : Nat)) ∈ lw_all := lw_g (lw_at lw_m1 100 rfl) rfl
theorem q171 : (Jvm.Cond.instanceMethod ({ cls := "SlimeNet$Plate", name := "<init>", desc := "()V" } : Jvm.MethodName)) ∈ lw_all := lw_g (lw_at lw_m1 102 rfl) rfl
theorem q172 : (Jvm.Cond.code ({ cls := "SlimeNet$Plate", name := "<init>", desc := "()V" } : Jvm.MethodName) prog_3_method_1_code (1 : Nat) (Option.none : Option Jvm.ClassFile.FieldType)) ∈ lw_all := lw_g (lw_at lw_m1 103 rfl) rfl
theorem q173 : (Jvm.Cond.methodLink "SlimeNet$Plate" (3 : Nat) ({ cls := "java/lang/Object", name := "<init>", desc := "()V" } : Jvm.MethodName)) ∈ lw_all := lw_g (lw_at lw_m1 104 rfl) rfl
theorem q174 : (Jvm.Cond.classLink "SlimeNet$Plate" (15 : Nat) "java/util/ArrayList") ∈ lw_all := lw_g (lw_at lw_m1 105 rfl) rfl
theorem q176 : (Jvm.Cond.methodLink "SlimeNet$Plate" (17 : Nat) ({ cls := "java/util/ArrayList", name := "<init>", desc := "()V" } : Jvm.MethodName)) ∈ lw_all := lw_g (lw_at lw_m1 107 rfl) rfl
theorem q202 : (Jvm.Cond.fieldLink "SlimeNet$Plate" (9 : Nat) "SlimeNet$Plate" "names" "[J") ∈ lw_all := lw_g (lw_at lw_m1 133 rfl) rfl
theorem q204 : (Jvm.Cond.fieldLink "SlimeNet$Plate" (18 : Nat) "SlimeNet$Plate" "pipes" "Ljava/util/ArrayList;") ∈ lw_all := lw_g (lw_at lw_m1 135 rfl) rfl
theorem q208 : (Jvm.Cond.fieldLink "SlimeNet$Plate" (22 : Nat) "SlimeNet$Plate" "flakes" "[I") ∈ lw_all := lw_g (lw_at lw_m1 139 rfl) rfl
theorem q212 : (Jvm.Cond.fieldLink "SlimeNet$Plate" (26 : Nat) "SlimeNet$Plate" "far" "[I") ∈ lw_all := lw_g (lw_at lw_m1 143 rfl) rfl
theorem q213 : (Jvm.Cond.fieldLink "SlimeNet$Plate" (42 : Nat) "SlimeNet$Plate" "spotMany" "I") ∈ lw_all := lw_g (lw_at lw_m1 144 rfl) rfl
theorem q217 : (Jvm.Cond.fieldLink "SlimeNet$Plate" (45 : Nat) "SlimeNet$Plate" "flakeMany" "I") ∈ lw_all := lw_g (lw_at lw_m1 148 rfl) rfl
theorem q221 : (Jvm.Cond.fieldLink "SlimeNet$Plate" (29 : Nat) "SlimeNet$Plate" "up" "I") ∈ lw_all := lw_g (lw_at lw_m1 152 rfl) rfl
theorem q224 : (Jvm.Cond.fieldLink "SlimeNet$Plate" (33 : Nat) "SlimeNet$Plate" "down" "I") ∈ lw_all := lw_g (lw_at lw_m1 155 rfl) rfl
theorem q227 : (Jvm.Cond.fieldLink "SlimeNet$Plate" (36 : Nat) "SlimeNet$Plate" "width" "I") ∈ lw_all := lw_g (lw_at lw_m1 158 rfl) rfl
theorem q230 : (Jvm.Cond.fieldLink "SlimeNet$Plate" (39 : Nat) "SlimeNet$Plate" "learn" "I") ∈ lw_all := lw_g (lw_at lw_m1 161 rfl) rfl
theorem q236 : (Jvm.Cond.laysFinal "SlimeNet$Plate" "SlimeNet$Plate" "names" "[J") ∈ lw_all := lw_g (lw_at lw_m1 167 rfl) rfl
theorem q237 : (Jvm.Cond.soleField "SlimeNet$Plate" "names") ∈ lw_all := lw_g (lw_at lw_m1 168 rfl) rfl
theorem q238 : (Jvm.Cond.laysFinal "SlimeNet$Plate" "SlimeNet$Plate" "pipes" "Ljava/util/ArrayList;") ∈ lw_all := lw_g (lw_at lw_m1 169 rfl) rfl
theorem q239 : (Jvm.Cond.soleField "SlimeNet$Plate" "pipes") ∈ lw_all := lw_g (lw_at lw_m1 170 rfl) rfl
theorem q240 : (Jvm.Cond.laysFinal "SlimeNet$Plate" "SlimeNet$Plate" "flakes" "[I") ∈ lw_all := lw_g (lw_at lw_m1 171 rfl) rfl
theorem q241 : (Jvm.Cond.soleField "SlimeNet$Plate" "flakes") ∈ lw_all := lw_g (lw_at lw_m1 172 rfl) rfl
theorem q242 : (Jvm.Cond.laysFinal "SlimeNet$Plate" "SlimeNet$Plate" "far" "[I") ∈ lw_all := lw_g (lw_at lw_m1 173 rfl) rfl
theorem q243 : (Jvm.Cond.soleField "SlimeNet$Plate" "far") ∈ lw_all := lw_g (lw_at lw_m1 174 rfl) rfl
theorem q244 : (Jvm.Cond.lays "SlimeNet$Plate" "SlimeNet$Plate" "spotMany" "I") ∈ lw_all := lw_g (lw_at lw_m1 175 rfl) rfl
theorem q245 : (Jvm.Cond.soleField "SlimeNet$Plate" "spotMany") ∈ lw_all := lw_g (lw_at lw_m1 176 rfl) rfl
theorem q246 : (Jvm.Cond.lays "SlimeNet$Plate" "SlimeNet$Plate" "flakeMany" "I") ∈ lw_all := lw_g (lw_at lw_m1 177 rfl) rfl
theorem q247 : (Jvm.Cond.soleField "SlimeNet$Plate" "flakeMany") ∈ lw_all := lw_g (lw_at lw_m1 178 rfl) rfl
theorem q248 : (Jvm.Cond.lays "SlimeNet$Plate" "SlimeNet$Plate" "up" "I") ∈ lw_all := lw_g (lw_at lw_m1 179 rfl) rfl
theorem q249 : (Jvm.Cond.soleField "SlimeNet$Plate" "up") ∈ lw_all := lw_g (lw_at lw_m1 180 rfl) rfl
theorem q250 : (Jvm.Cond.lays "SlimeNet$Plate" "SlimeNet$Plate" "down" "I") ∈ lw_all := lw_g (lw_at lw_m1 181 rfl) rfl
theorem q251 : (Jvm.Cond.soleField "SlimeNet$Plate" "down") ∈ lw_all := lw_g (lw_at lw_m1 182 rfl) rfl
theorem q252 : (Jvm.Cond.lays "SlimeNet$Plate" "SlimeNet$Plate" "width" "I") ∈ lw_all := lw_g (lw_at lw_m1 183 rfl) rfl
theorem q253 : (Jvm.Cond.soleField "SlimeNet$Plate" "width") ∈ lw_all := lw_g (lw_at lw_m1 184 rfl) rfl
theorem q254 : (Jvm.Cond.lays "SlimeNet$Plate" "SlimeNet$Plate" "learn" "I") ∈ lw_all := lw_g (lw_at lw_m1 185 rfl) rfl
theorem q255 : (Jvm.Cond.soleField "SlimeNet$Plate" "learn") ∈ lw_all := lw_g (lw_at lw_m1 186 rfl) rfl
theorem q256 : (Jvm.Cond.lays "SlimeNet$Plate" "SlimeNet$Plate" "clauses" "I") ∈ lw_all := lw_g (lw_at lw_m1 187 rfl) rfl
theorem q257 : (Jvm.Cond.soleField "SlimeNet$Plate" "clauses") ∈ lw_all := lw_g (lw_at lw_m1 188 rfl) rfl
theorem q258 : (Jvm.Cond.superclass "SlimeNet$Plate" "java/lang/Object") ∈ lw_all := lw_g (lw_at lw_m1 189 rfl) rfl
theorem q594 : (Jvm.Cond.instanceMethod ({ cls := "SlimeNet$Plate", name := "find", desc := "(J)I" } : Jvm.MethodName)) ∈ lw_all := lw_g (lw_at lw_m3 45 rfl) rfl
theorem q595 : (Jvm.Cond.selects "SlimeNet$Plate" ({ cls := "SlimeNet$Plate", name := "find", desc := "(J)I" } : Jvm.MethodName) ({ cls := "SlimeNet$Plate", name := "find", desc := "(J)I" } : Jvm.MethodName)) ∈ lw_all := lw_g (lw_at lw_m3 46 rfl) rfl
theorem q596 : (Jvm.Cond.code ({ cls := "SlimeNet$Plate", name := "find", desc := "(J)I" } : Jvm.MethodName) prog_3_method_2_code (4 : Nat) (Option.some Jvm.ClassFile.FieldType.int)) ∈ lw_all := lw_g (lw_at lw_m3 47 rfl) rfl
theorem q608 : (Jvm.Cond.instanceMethod ({ cls := "SlimeNet$Plate", name := "between", desc := "(II)LSlimeNet$Pipe;" } : Jvm.MethodName)) ∈ lw_all := lw_g (lw_at lw_m3 59 rfl) rfl
theorem q609 : (Jvm.Cond.selects "SlimeNet$Plate" ({ cls := "SlimeNet$Plate", name := "between", desc := "(II)LSlimeNet$Pipe;" } : Jvm.MethodName) ({ cls := "SlimeNet$Plate", name := "between", desc := "(II)LSlimeNet$Pipe;" } : Jvm.MethodName)) ∈ lw_all := lw_g (lw_at lw_m3 60 rfl) rfl
theorem q610 : (Jvm.Cond.code ({ cls := "SlimeNet$Plate", name := "between", desc := "(II)LSlimeNet$Pipe;" } : Jvm.MethodName) prog_3_method_4_code (5 : Nat) (Option.some (Jvm.ClassFile.FieldType.object "SlimeNet$Pipe"))) ∈ lw_all := lw_g (lw_at lw_m3 61 rfl) rfl
theorem q611 : (Jvm.Cond.methodLink "SlimeNet$Plate" (48 : Nat) ({ cls := "java/util/ArrayList", name := "size", desc := "()I" } : Jvm.MethodName)) ∈ lw_all := lw_g (lw_at lw_m3 62 rfl) rfl
theorem q612 : (Jvm.Cond.methodLink "SlimeNet$Plate" (52 : Nat) ({ cls := "java/util/ArrayList", name := "get", desc := "(I)Ljava/lang/Object;" } : Jvm.MethodName)) ∈ lw_all := lw_g (lw_at lw_m3 63 rfl) rfl
theorem q624 : (Jvm.Cond.classLink "SlimeNet$Plate" (56 : Nat) "SlimeNet$Pipe") ∈ lw_all := lw_g (lw_at lw_m3 75 rfl) rfl
theorem q644 : (Jvm.Cond.fieldLinkNest "SlimeNet$Plate" (58 : Nat) "SlimeNet$Pipe" "one" "I" "SlimeNet") ∈ lw_tbl := lw_at lw_m3 95 rfl
theorem q648 : (Jvm.Cond.fieldLinkNest "SlimeNet$Plate" (61 : Nat) "SlimeNet$Pipe" "two" "I" "SlimeNet") ∈ lw_tbl := lw_at lw_m3 99 rfl
theorem q653 : (Jvm.Cond.fieldLinkNest "SlimeNet$Plate" (68 : Nat) "SlimeNet$Pipe" "length" "I" "SlimeNet") ∈ lw_tbl := lw_at lw_m3 104 rfl
theorem q703 : (Jvm.Cond.selects "SlimeNet$Plate" ({ cls := "java/lang/Object", name := "getClass", desc := "()Ljava/lang/Class;" } : Jvm.MethodName) ({ cls := "java/lang/Object", name := "getClass", desc := "()Ljava/lang/Class;" } : Jvm.MethodName)) ∈ lw_all := lw_g (lw_at lw_m3 154 rfl) rfl
theorem q726 : (Jvm.Cond.instanceMethod ({ cls := "SlimeNet$Plate", name := "isFlake", desc := "(I)Z" } : Jvm.MethodName)) ∈ lw_all := lw_g (lw_at lw_m3 177 rfl) rfl
theorem q727 : (Jvm.Cond.selects "SlimeNet$Plate" ({ cls := "SlimeNet$Plate", name := "isFlake", desc := "(I)Z" } : Jvm.MethodName) ({ cls := "SlimeNet$Plate", name := "isFlake", desc := "(I)Z" } : Jvm.MethodName)) ∈ lw_all := lw_g (lw_at lw_m3 178 rfl) rfl
theorem q728 : (Jvm.Cond.code ({ cls := "SlimeNet$Plate", name := "isFlake", desc := "(I)Z" } : Jvm.MethodName) prog_3_method_3_code (3 : Nat) (Option.some Jvm.ClassFile.FieldType.boolean)) ∈ lw_all := lw_g (lw_at lw_m3 179 rfl) rfl
theorem q767 : (Jvm.Cond.instanceMethod ({ cls := "SlimeNet$Plate", name := "pairs", desc := "()I" } : Jvm.MethodName)) ∈ lw_all := lw_g (lw_at lw_m3 218 rfl) rfl
theorem q768 : (Jvm.Cond.selects "SlimeNet$Plate" ({ cls := "SlimeNet$Plate", name := "pairs", desc := "()I" } : Jvm.MethodName) ({ cls := "SlimeNet$Plate", name := "pairs", desc := "()I" } : Jvm.MethodName)) ∈ lw_all := lw_g (lw_at lw_m3 219 rfl) rfl
theorem q769 : (Jvm.Cond.code ({ cls := "SlimeNet$Plate", name := "pairs", desc := "()I" } : Jvm.MethodName) prog_3_method_5_code (1 : Nat) (Option.some Jvm.ClassFile.FieldType.int)) ∈ lw_all := lw_g (lw_at lw_m3 220 rfl) rfl
theorem q815 : (Jvm.Cond.instanceMethod ({ cls := "SlimeNet$Plate", name := "joined", desc := "(II)I" } : Jvm.MethodName)) ∈ lw_all := lw_g (lw_at lw_m4 26 rfl) rfl
theorem q816 : (Jvm.Cond.selects "SlimeNet$Plate" ({ cls := "SlimeNet$Plate", name := "joined", desc := "(II)I" } : Jvm.MethodName) ({ cls := "SlimeNet$Plate", name := "joined", desc := "(II)I" } : Jvm.MethodName)) ∈ lw_all := lw_g (lw_at lw_m4 27 rfl) rfl
theorem q817 : (Jvm.Cond.code ({ cls := "SlimeNet$Plate", name := "joined", desc := "(II)I" } : Jvm.MethodName) prog_3_method_6_code (7 : Nat) (Option.some Jvm.ClassFile.FieldType.int)) ∈ lw_all := lw_g (lw_at lw_m4 28 rfl) rfl
theorem q939 : (Jvm.Cond.instanceMethod ({ cls := "SlimeNet$Plate", name := "length", desc := "(I)I" } : Jvm.MethodName)) ∈ lw_all := lw_g (lw_at lw_m4 150 rfl) rfl
theorem q940 : (Jvm.Cond.selects "SlimeNet$Plate" ({ cls := "SlimeNet$Plate", name := "length", desc := "(I)I" } : Jvm.MethodName) ({ cls := "SlimeNet$Plate", name := "length", desc := "(I)I" } : Jvm.MethodName)) ∈ lw_all := lw_g (lw_at lw_m4 151 rfl) rfl
theorem q941 : (Jvm.Cond.code ({ cls := "SlimeNet$Plate", name := "length", desc := "(I)I" } : Jvm.MethodName) prog_3_method_8_code (4 : Nat) (Option.some Jvm.ClassFile.FieldType.int)) ∈ lw_all := lw_g (lw_at lw_m4 152 rfl) rfl
theorem q943 : (Jvm.Cond.instanceMethod ({ cls := "SlimeNet$Plate", name := "joins", desc := "(I)Z" } : Jvm.MethodName)) ∈ lw_all := lw_g (lw_at lw_m4 154 rfl) rfl
theorem q944 : (Jvm.Cond.selects "SlimeNet$Plate" ({ cls := "SlimeNet$Plate", name := "joins", desc := "(I)Z" } : Jvm.MethodName) ({ cls := "SlimeNet$Plate", name := "joins", desc := "(I)Z" } : Jvm.MethodName)) ∈ lw_all := lw_g (lw_at lw_m4 155 rfl) rfl
theorem q945 : (Jvm.Cond.code ({ cls := "SlimeNet$Plate", name := "joins", desc := "(I)Z" } : Jvm.MethodName) prog_3_method_7_code (4 : Nat) (Option.some Jvm.ClassFile.FieldType.boolean)) ∈ lw_all := lw_g (lw_at lw_m4 156 rfl) rfl
theorem q946 : (Jvm.Cond.methodLink "SlimeNet$Plate" (64 : Nat) ({ cls := "SlimeNet$Plate", name := "joined", desc := "(II)I" } : Jvm.MethodName)) ∈ lw_all := lw_g (lw_at lw_m4 157 rfl) rfl
theorem q948 : (Jvm.Cond.instanceMethod ({ cls := "SlimeNet$Plate", name := "sure", desc := "(I)I" } : Jvm.MethodName)) ∈ lw_all := lw_g (lw_at lw_m4 159 rfl) rfl
theorem q949 : (Jvm.Cond.selects "SlimeNet$Plate" ({ cls := "SlimeNet$Plate", name := "sure", desc := "(I)I" } : Jvm.MethodName) ({ cls := "SlimeNet$Plate", name := "sure", desc := "(I)I" } : Jvm.MethodName)) ∈ lw_all := lw_g (lw_at lw_m4 160 rfl) rfl
theorem q950 : (Jvm.Cond.code ({ cls := "SlimeNet$Plate", name := "sure", desc := "(I)I" } : Jvm.MethodName) prog_3_method_9_code (4 : Nat) (Option.some Jvm.ClassFile.FieldType.int)) ∈ lw_all := lw_g (lw_at lw_m4 161 rfl) rfl
theorem q951 : (Jvm.Cond.methodLink "SlimeNet$Plate" (71 : Nat) ({ cls := "SlimeNet$Plate", name := "joins", desc := "(I)Z" } : Jvm.MethodName)) ∈ lw_all := lw_g (lw_at lw_m4 162 rfl) rfl
theorem q953 : (Jvm.Cond.instanceMethod ({ cls := "SlimeNet$Plate", name := "ways", desc := "(I)I" } : Jvm.MethodName)) ∈ lw_all := lw_g (lw_at lw_m4 164 rfl) rfl
theorem q954 : (Jvm.Cond.selects "SlimeNet$Plate" ({ cls := "SlimeNet$Plate", name := "ways", desc := "(I)I" } : Jvm.MethodName) ({ cls := "SlimeNet$Plate", name := "ways", desc := "(I)I" } : Jvm.MethodName)) ∈ lw_all := lw_g (lw_at lw_m4 165 rfl) rfl
theorem q955 : (Jvm.Cond.code ({ cls := "SlimeNet$Plate", name := "ways", desc := "(I)I" } : Jvm.MethodName) prog_3_method_11_code (5 : Nat) (Option.some Jvm.ClassFile.FieldType.int)) ∈ lw_all := lw_g (lw_at lw_m4 166 rfl) rfl
theorem q956 : (Jvm.Cond.methodLink "SlimeNet$Plate" (86 : Nat) ({ cls := "SlimeNet$Plate", name := "way", desc := "(III)I" } : Jvm.MethodName)) ∈ lw_all := lw_g (lw_at lw_m4 167 rfl) rfl
theorem q957 : (Jvm.Cond.instanceMethod ({ cls := "SlimeNet$Plate", name := "way", desc := "(III)I" } : Jvm.MethodName)) ∈ lw_all := lw_g (lw_at lw_m4 168 rfl) rfl
theorem q958 : (Jvm.Cond.selects "SlimeNet$Plate" ({ cls := "SlimeNet$Plate", name := "way", desc := "(III)I" } : Jvm.MethodName) ({ cls := "SlimeNet$Plate", name := "way", desc := "(III)I" } : Jvm.MethodName)) ∈ lw_all := lw_g (lw_at lw_m4 169 rfl) rfl
theorem q959 : (Jvm.Cond.code ({ cls := "SlimeNet$Plate", name := "way", desc := "(III)I" } : Jvm.MethodName) prog_3_method_10_code (7 : Nat) (Option.some Jvm.ClassFile.FieldType.int)) ∈ lw_all := lw_g (lw_at lw_m4 170 rfl) rfl
theorem q960 : (Jvm.Cond.methodLink "SlimeNet$Plate" (75 : Nat) ({ cls := "java/util/Arrays", name := "fill", desc := "([II)V" } : Jvm.MethodName)) ∈ lw_all := lw_g (lw_at lw_m4 171 rfl) rfl
theorem q961 : (Jvm.Cond.methodLink "SlimeNet$Plate" (81 : Nat) ({ cls := "java/lang/Math", name := "min", desc := "(II)I" } : Jvm.MethodName)) ∈ lw_all := lw_g (lw_at lw_m4 172 rfl) rfl
theorem q1594 : (Jvm.Cond.castable "SlimeNet$Plate" "java/lang/Object") ∈ lw_tbl := lw_at lw_m7 85 rfl
theorem in_X2 : ∀ w ∈ wsX20, w ∈ lw_all := lw_in wsX20 [236, 238, 240, 242, 244, 246, 248, 250, 252, 254, 256] (by decide +kernel) (by decide +kernel)
/-! SlimeNet$Slime -/
set_option maxRecDepth 100000
def RX3 : String := "SlimeNet$Slime"
def TX3 : u_T := fun k => match k with
  | 0 => ("SlimeNet$Slime", "plate", "LSlimeNet$Plate;", false)
  | 1 => ("SlimeNet$Slime", "width", "[I", true)
  | 2 => ("SlimeNet$Slime", "count", "[I", true)
  | 3 => ("SlimeNet$Slime", "hour", "I", false)
  | 4 => ("SlimeNet$Slime", "up", "I", false)
  | 5 => ("SlimeNet$Slime", "down", "I", false)
  | 6 => ("SlimeNet$Slime", "rowOf", "[I", true)
  | 7 => ("SlimeNet$Slime", "matrix", "[J", true)
  | 8 => ("SlimeNet$Slime", "right", "[J", true)
  | 9 => ("SlimeNet$Slime", "height", "[J", true)
  | 10 => ("SlimeNet$Slime", "flow", "[J", true)
  | 11 => ("SlimeNet$Slime", "under", "J", false)
  | _ => ("SlimeNet$Slime", "rows", "I", false)
def tyX3 : Nat → FieldType := fun k => match k with
  | 0 => .object "SlimeNet$Plate"
  | 1 => .array .int
  | 2 => .array .int
  | 3 => .int
  | 4 => .int
  | 5 => .int
  | 6 => .array .int
  | 7 => .array .long
  | 8 => .array .long
  | 9 => .array .long
  | 10 => .array .long
  | 11 => .long
  | _ => .int
abbrev wsX30 : List Cond := u_ws RX3 TX3 13
set_option maxRecDepth 100000 in
theorem nmX3 : ∀ a, a < 13 → ∀ b, b < 13 → a ≠ b → (TX3 a).2.1 ≠ (TX3 b).2.1 := by decide +kernel
set_option maxRecDepth 100000 in
theorem tyX3_ok : ∀ k, k < 13 → parseFieldDescriptor (TX3 k).2.2.1 = some (tyX3 k) := by decide +kernel
abbrev cX3_init : ByteArray := prog_6_method_1_code
def yX3_init : MethodName := ⟨RX3, "<init>", "()V"⟩
def dkwX3_init_2 : List UInt8 := [188, 11, 181, 0, 28, 42, 16, 10, 188, 11, 181, 0, 31, 177]
abbrev dktX3_init_2 : List UInt8 := dkwX3_init_2 ++ []
def dkwX3_init_1 : List UInt8 := [188, 10, 181, 0, 18, 42, 16, 36, 188, 11, 181, 0, 21, 42, 16, 6, 188, 11, 181, 0, 25, 42, 16, 6]
abbrev dktX3_init_1 : List UInt8 := dkwX3_init_1 ++ dktX3_init_2
def dkwX3_init_0 : List UInt8 := [42, 183, 0, 3, 42, 16, 10, 188, 10, 181, 0, 9, 42, 16, 10, 188, 10, 181, 0, 15, 42, 16, 6]
abbrev dktX3_init_0 : List UInt8 := dkwX3_init_0 ++ dktX3_init_1
theorem dksX3_init_0 : cX3_init.data.toList.drop 0 = dktX3_init_0 := by decide +kernel
theorem dksX3_init_1 : cX3_init.data.toList.drop 23 = dktX3_init_1 := dk_seg dksX3_init_0 23 rfl rfl
theorem dksX3_init_2 : cX3_init.data.toList.drop 47 = dktX3_init_2 := dk_seg dksX3_init_1 24 rfl rfl
theorem dX3_init_0 : decode cX3_init 0 = .ok (.aload_n 0, 1) := dk_42 (dk_at dksX3_init_0 0 rfl rfl)
theorem dX3_init_1 : decode cX3_init 1 = .ok (.invokespecial 3, 3) := dk_183 0 3 (dk_at dksX3_init_0 1 rfl rfl)
theorem dX3_init_4 : decode cX3_init 4 = .ok (.aload_n 0, 1) := dk_42 (dk_at dksX3_init_0 4 rfl rfl)
theorem dX3_init_5 : decode cX3_init 5 = .ok (.bipush 10, 2) := dk_16 10 (dk_at dksX3_init_0 5 rfl rfl)
theorem dX3_init_7 : decode cX3_init 7 = .ok (.newarray .int, 2) := dk_188_10 (dk_at dksX3_init_0 7 rfl rfl)
theorem dX3_init_9 : decode cX3_init 9 = .ok (.putfield 9, 3) := dk_181 0 9 (dk_at dksX3_init_0 9 rfl rfl)
theorem dX3_init_12 : decode cX3_init 12 = .ok (.aload_n 0, 1) := dk_42 (dk_at dksX3_init_0 12 rfl rfl)
theorem dX3_init_13 : decode cX3_init 13 = .ok (.bipush 10, 2) := dk_16 10 (dk_at dksX3_init_0 13 rfl rfl)
theorem dX3_init_15 : decode cX3_init 15 = .ok (.newarray .int, 2) := dk_188_10 (dk_at dksX3_init_0 15 rfl rfl)
theorem dX3_init_17 : decode cX3_init 17 = .ok (.putfield 15, 3) := dk_181 0 15 (dk_at dksX3_init_0 17 rfl rfl)
theorem dX3_init_20 : decode cX3_init 20 = .ok (.aload_n 0, 1) := dk_42 (dk_at dksX3_init_0 20 rfl rfl)
theorem dX3_init_21 : decode cX3_init 21 = .ok (.bipush 6, 2) := dk_16 6 (dk_at dksX3_init_0 21 rfl rfl)
theorem dX3_init_23 : decode cX3_init 23 = .ok (.newarray .int, 2) := dk_188_10 (dk_at dksX3_init_1 0 rfl rfl)
theorem dX3_init_25 : decode cX3_init 25 = .ok (.putfield 18, 3) := dk_181 0 18 (dk_at dksX3_init_1 2 rfl rfl)
theorem dX3_init_28 : decode cX3_init 28 = .ok (.aload_n 0, 1) := dk_42 (dk_at dksX3_init_1 5 rfl rfl)
theorem dX3_init_29 : decode cX3_init 29 = .ok (.bipush 36, 2) := dk_16 36 (dk_at dksX3_init_1 6 rfl rfl)
theorem dX3_init_31 : decode cX3_init 31 = .ok (.newarray .long, 2) := dk_188_11 (dk_at dksX3_init_1 8 rfl rfl)
theorem dX3_init_33 : decode cX3_init 33 = .ok (.putfield 21, 3) := dk_181 0 21 (dk_at dksX3_init_1 10 rfl rfl)
theorem dX3_init_36 : decode cX3_init 36 = .ok (.aload_n 0, 1) := dk_42 (dk_at dksX3_init_1 13 rfl rfl)
theorem dX3_init_37 : decode cX3_init 37 = .ok (.bipush 6, 2) := dk_16 6 (dk_at dksX3_init_1 14 rfl rfl)
theorem dX3_init_39 : decode cX3_init 39 = .ok (.newarray .long, 2) := dk_188_11 (dk_at dksX3_init_1 16 rfl rfl)
theorem dX3_init_41 : decode cX3_init 41 = .ok (.putfield 25, 3) := dk_181 0 25 (dk_at dksX3_init_1 18 rfl rfl)
theorem dX3_init_44 : decode cX3_init 44 = .ok (.aload_n 0, 1) := dk_42 (dk_at dksX3_init_1 21 rfl rfl)
theorem dX3_init_45 : decode cX3_init 45 = .ok (.bipush 6, 2) := dk_16 6 (dk_at dksX3_init_1 22 rfl rfl)
theorem dX3_init_47 : decode cX3_init 47 = .ok (.newarray .long, 2) := dk_188_11 (dk_at dksX3_init_2 0 rfl rfl)
theorem dX3_init_49 : decode cX3_init 49 = .ok (.putfield 28, 3) := dk_181 0 28 (dk_at dksX3_init_2 2 rfl rfl)
theorem dX3_init_52 : decode cX3_init 52 = .ok (.aload_n 0, 1) := dk_42 (dk_at dksX3_init_2 5 rfl rfl)
theorem dX3_init_53 : decode cX3_init 53 = .ok (.bipush 10, 2) := dk_16 10 (dk_at dksX3_init_2 6 rfl rfl)
theorem dX3_init_55 : decode cX3_init 55 = .ok (.newarray .long, 2) := dk_188_11 (dk_at dksX3_init_2 8 rfl rfl)
theorem dX3_init_57 : decode cX3_init 57 = .ok (.putfield 31, 3) := dk_181 0 31 (dk_at dksX3_init_2 10 rfl rfl)
theorem dX3_init_60 : decode cX3_init 60 = .ok (.return_, 1) := dk_177 (dk_at dksX3_init_2 13 rfl rfl)
abbrev cX3_begin : ByteArray := prog_6_method_2_code
def yX3_begin : MethodName := ⟨RX3, "begin", "(LSlimeNet$Plate;)V"⟩
def dkwX3_begin_3 : List UInt8 := [167, 255, 215, 177]
abbrev dktX3_begin_3 : List UInt8 := dkwX3_begin_3 ++ []
def dkwX3_begin_2 : List UInt8 := [162, 0, 10, 43, 180, 0, 62, 167, 0, 4, 3, 79, 42, 180, 0, 15, 28, 3, 79, 132, 2, 1]
abbrev dktX3_begin_2 : List UInt8 := dkwX3_begin_2 ++ dktX3_begin_3
def dkwX3_begin_1 : List UInt8 := [181, 0, 49, 3, 61, 28, 16, 10, 162, 0, 41, 42, 180, 0, 9, 28, 28, 43, 180, 0, 52, 182, 0, 56]
abbrev dktX3_begin_1 : List UInt8 := dkwX3_begin_1 ++ dktX3_begin_2
def dkwX3_begin_0 : List UInt8 := [42, 43, 181, 0, 34, 42, 43, 180, 0, 38, 181, 0, 44, 42, 43, 180, 0, 45, 181, 0, 48, 42, 3]
abbrev dktX3_begin_0 : List UInt8 := dkwX3_begin_0 ++ dktX3_begin_1
theorem dksX3_begin_0 : cX3_begin.data.toList.drop 0 = dktX3_begin_0 := by decide +kernel
theorem dksX3_begin_1 : cX3_begin.data.toList.drop 23 = dktX3_begin_1 := dk_seg dksX3_begin_0 23 rfl rfl
theorem dksX3_begin_2 : cX3_begin.data.toList.drop 47 = dktX3_begin_2 := dk_seg dksX3_begin_1 24 rfl rfl
theorem dksX3_begin_3 : cX3_begin.data.toList.drop 69 = dktX3_begin_3 := dk_seg dksX3_begin_2 22 rfl rfl
theorem dX3_begin_0 : decode cX3_begin 0 = .ok (.aload_n 0, 1) := dk_42 (dk_at dksX3_begin_0 0 rfl rfl)
theorem dX3_begin_1 : decode cX3_begin 1 = .ok (.aload_n 1, 1) := dk_43 (dk_at dksX3_begin_0 1 rfl rfl)
theorem dX3_begin_2 : decode cX3_begin 2 = .ok (.putfield 34, 3) := dk_181 0 34 (dk_at dksX3_begin_0 2 rfl rfl)
theorem dX3_begin_5 : decode cX3_begin 5 = .ok (.aload_n 0, 1) := dk_42 (dk_at dksX3_begin_0 5 rfl rfl)
theorem dX3_begin_6 : decode cX3_begin 6 = .ok (.aload_n 1, 1) := dk_43 (dk_at dksX3_begin_0 6 rfl rfl)
theorem dX3_begin_7 : decode cX3_begin 7 = .ok (.getfield 38, 3) := dk_180 0 38 (dk_at dksX3_begin_0 7 rfl rfl)
theorem dX3_begin_10 : decode cX3_begin 10 = .ok (.putfield 44, 3) := dk_181 0 44 (dk_at dksX3_begin_0 10 rfl rfl)
theorem dX3_begin_13 : decode cX3_begin 13 = .ok (.aload_n 0, 1) := dk_42 (dk_at dksX3_begin_0 13 rfl rfl)
theorem dX3_begin_14 : decode cX3_begin 14 = .ok (.aload_n 1, 1) := dk_43 (dk_at dksX3_begin_0 14 rfl rfl)
theorem dX3_begin_15 : decode cX3_begin 15 = .ok (.getfield 45, 3) := dk_180 0 45 (dk_at dksX3_begin_0 15 rfl rfl)
theorem dX3_begin_18 : decode cX3_begin 18 = .ok (.putfield 48, 3) := dk_181 0 48 (dk_at dksX3_begin_0 18 rfl rfl)
theorem dX3_begin_21 : decode cX3_begin 21 = .ok (.aload_n 0, 1) := dk_42 (dk_at dksX3_begin_0 21 rfl rfl)
theorem dX3_begin_22 : decode cX3_begin 22 = .ok (.iconst 0, 1) := dk_3 (dk_at dksX3_begin_0 22 rfl rfl)
theorem dX3_begin_23 : decode cX3_begin 23 = .ok (.putfield 49, 3) := dk_181 0 49 (dk_at dksX3_begin_1 0 rfl rfl)
theorem dX3_begin_26 : decode cX3_begin 26 = .ok (.iconst 0, 1) := dk_3 (dk_at dksX3_begin_1 3 rfl rfl)
theorem dX3_begin_27 : decode cX3_begin 27 = .ok (.istore_n 2, 1) := dk_61 (dk_at dksX3_begin_1 4 rfl rfl)
theorem dX3_begin_28 : decode cX3_begin 28 = .ok (.iload_n 2, 1) := dk_28 (dk_at dksX3_begin_1 5 rfl rfl)
theorem dX3_begin_29 : decode cX3_begin 29 = .ok (.bipush 10, 2) := dk_16 10 (dk_at dksX3_begin_1 6 rfl rfl)
theorem dX3_begin_31 : decode cX3_begin 31 = .ok (.if_icmp .ge 41, 3) := dk_162 0 41 (dk_at dksX3_begin_1 8 rfl rfl)
theorem dX3_begin_34 : decode cX3_begin 34 = .ok (.aload_n 0, 1) := dk_42 (dk_at dksX3_begin_1 11 rfl rfl)
theorem dX3_begin_35 : decode cX3_begin 35 = .ok (.getfield 9, 3) := dk_180 0 9 (dk_at dksX3_begin_1 12 rfl rfl)
theorem dX3_begin_38 : decode cX3_begin 38 = .ok (.iload_n 2, 1) := dk_28 (dk_at dksX3_begin_1 15 rfl rfl)
theorem dX3_begin_39 : decode cX3_begin 39 = .ok (.iload_n 2, 1) := dk_28 (dk_at dksX3_begin_1 16 rfl rfl)
theorem dX3_begin_40 : decode cX3_begin 40 = .ok (.aload_n 1, 1) := dk_43 (dk_at dksX3_begin_1 17 rfl rfl)
theorem dX3_begin_41 : decode cX3_begin 41 = .ok (.getfield 52, 3) := dk_180 0 52 (dk_at dksX3_begin_1 18 rfl rfl)
theorem dX3_begin_44 : decode cX3_begin 44 = .ok (.invokevirtual 56, 3) := dk_182 0 56 (dk_at dksX3_begin_1 21 rfl rfl)
theorem dX3_begin_47 : decode cX3_begin 47 = .ok (.if_icmp .ge 10, 3) := dk_162 0 10 (dk_at dksX3_begin_2 0 rfl rfl)
theorem dX3_begin_50 : decode cX3_begin 50 = .ok (.aload_n 1, 1) := dk_43 (dk_at dksX3_begin_2 3 rfl rfl)
theorem dX3_begin_51 : decode cX3_begin 51 = .ok (.getfield 62, 3) := dk_180 0 62 (dk_at dksX3_begin_2 4 rfl rfl)
theorem dX3_begin_54 : decode cX3_begin 54 = .ok (.goto 4, 3) := dk_167 0 4 (dk_at dksX3_begin_2 7 rfl rfl)
theorem dX3_begin_57 : decode cX3_begin 57 = .ok (.iconst 0, 1) := dk_3 (dk_at dksX3_begin_2 10 rfl rfl)
theorem dX3_begin_58 : decode cX3_begin 58 = .ok (.iastore, 1) := dk_79 (dk_at dksX3_begin_2 11 rfl rfl)
theorem dX3_begin_59 : decode cX3_begin 59 = .ok (.aload_n 0, 1) := dk_42 (dk_at dksX3_begin_2 12 rfl rfl)
theorem dX3_begin_60 : decode cX3_begin 60 = .ok (.getfield 15, 3) := dk_180 0 15 (dk_at dksX3_begin_2 13 rfl rfl)
theorem dX3_begin_63 : decode cX3_begin 63 = .ok (.iload_n 2, 1) := dk_28 (dk_at dksX3_begin_2 16 rfl rfl)
theorem dX3_begin_64 : decode cX3_begin 64 = .ok (.iconst 0, 1) := dk_3 (dk_at dksX3_begin_2 17 rfl rfl)
theorem dX3_begin_65 : decode cX3_begin 65 = .ok (.iastore, 1) := dk_79 (dk_at dksX3_begin_2 18 rfl rfl)
theorem dX3_begin_66 : decode cX3_begin 66 = .ok (.iinc 2 1, 3) := dk_132 2 1 (dk_at dksX3_begin_2 19 rfl rfl)
theorem dX3_begin_69 : decode cX3_begin 69 = .ok (.goto (-41), 3) := dk_167 255 215 (dk_at dksX3_begin_3 0 rfl rfl)
theorem dX3_begin_72 : decode cX3_begin 72 = .ok (.return_, 1) := dk_177 (dk_at dksX3_begin_3 3 rfl rfl)
abbrev cX3_flow : ByteArray := prog_6_method_9_code
def yX3_flow : MethodName := ⟨RX3, "flow", "()V"⟩
def dkwX3_flow_5 : List UInt8 := [126, 4, 160, 0, 12, 42, 29, 21, 4, 21, 5, 182, 0, 116, 177]
abbrev dktX3_flow_5 : List UInt8 := dkwX3_flow_5 ++ []
def dkwX3_flow_4 : List UInt8 := [96, 46, 54, 4, 42, 180, 0, 34, 42, 182, 0, 109, 29, 182, 0, 112, 54, 5, 21, 5, 21, 4, 122, 4]
abbrev dktX3_flow_4 : List UInt8 := dkwX3_flow_4 ++ dktX3_flow_5
def dkwX3_flow_3 : List UInt8 := [167, 255, 224, 42, 180, 0, 34, 180, 0, 106, 28, 46, 62, 42, 180, 0, 34, 180, 0, 106, 28, 4, 96, 27]
abbrev dktX3_flow_3 : List UInt8 := dkwX3_flow_3 ++ dktX3_flow_4
def dkwX3_flow_2 : List UInt8 := [100, 28, 100, 161, 0, 23, 27, 42, 180, 0, 34, 180, 0, 103, 4, 100, 28, 100, 100, 60, 132, 2, 1]
abbrev dktX3_flow_2 : List UInt8 := dkwX3_flow_2 ++ dktX3_flow_3
def dkwX3_flow_1 : List UInt8 := [42, 180, 0, 49, 42, 180, 0, 34, 182, 0, 100, 112, 60, 3, 61, 27, 42, 180, 0, 34, 180, 0, 103, 4]
abbrev dktX3_flow_1 : List UInt8 := dkwX3_flow_1 ++ dktX3_flow_2
def dkwX3_flow_0 : List UInt8 := [42, 180, 0, 31, 9, 184, 0, 90, 42, 10, 181, 0, 96, 42, 180, 0, 34, 182, 0, 100, 154, 0, 4, 177]
abbrev dktX3_flow_0 : List UInt8 := dkwX3_flow_0 ++ dktX3_flow_1
theorem dksX3_flow_0 : cX3_flow.data.toList.drop 0 = dktX3_flow_0 := by decide +kernel
theorem dksX3_flow_1 : cX3_flow.data.toList.drop 24 = dktX3_flow_1 := dk_seg dksX3_flow_0 24 rfl rfl
theorem dksX3_flow_2 : cX3_flow.data.toList.drop 48 = dktX3_flow_2 := dk_seg dksX3_flow_1 24 rfl rfl
theorem dksX3_flow_3 : cX3_flow.data.toList.drop 71 = dktX3_flow_3 := dk_seg dksX3_flow_2 23 rfl rfl
theorem dksX3_flow_4 : cX3_flow.data.toList.drop 95 = dktX3_flow_4 := dk_seg dksX3_flow_3 24 rfl rfl
theorem dksX3_flow_5 : cX3_flow.data.toList.drop 119 = dktX3_flow_5 := dk_seg dksX3_flow_4 24 rfl rfl
theorem dX3_flow_0 : decode cX3_flow 0 = .ok (.aload_n 0, 1) := dk_42 (dk_at dksX3_flow_0 0 rfl rfl)
theorem dX3_flow_1 : decode cX3_flow 1 = .ok (.getfield 31, 3) := dk_180 0 31 (dk_at dksX3_flow_0 1 rfl rfl)
theorem dX3_flow_4 : decode cX3_flow 4 = .ok (.lconst 0, 1) := dk_9 (dk_at dksX3_flow_0 4 rfl rfl)
theorem dX3_flow_5 : decode cX3_flow 5 = .ok (.invokestatic 90, 3) := dk_184 0 90 (dk_at dksX3_flow_0 5 rfl rfl)
theorem dX3_flow_8 : decode cX3_flow 8 = .ok (.aload_n 0, 1) := dk_42 (dk_at dksX3_flow_0 8 rfl rfl)
theorem dX3_flow_9 : decode cX3_flow 9 = .ok (.lconst 1, 1) := dk_10 (dk_at dksX3_flow_0 9 rfl rfl)
theorem dX3_flow_10 : decode cX3_flow 10 = .ok (.putfield 96, 3) := dk_181 0 96 (dk_at dksX3_flow_0 10 rfl rfl)
theorem dX3_flow_13 : decode cX3_flow 13 = .ok (.aload_n 0, 1) := dk_42 (dk_at dksX3_flow_0 13 rfl rfl)
theorem dX3_flow_14 : decode cX3_flow 14 = .ok (.getfield 34, 3) := dk_180 0 34 (dk_at dksX3_flow_0 14 rfl rfl)
theorem dX3_flow_17 : decode cX3_flow 17 = .ok (.invokevirtual 100, 3) := dk_182 0 100 (dk_at dksX3_flow_0 17 rfl rfl)
theorem dX3_flow_20 : decode cX3_flow 20 = .ok (.ifCond .ne 4, 3) := dk_154 0 4 (dk_at dksX3_flow_0 20 rfl rfl)
theorem dX3_flow_23 : decode cX3_flow 23 = .ok (.return_, 1) := dk_177 (dk_at dksX3_flow_0 23 rfl rfl)
theorem dX3_flow_24 : decode cX3_flow 24 = .ok (.aload_n 0, 1) := dk_42 (dk_at dksX3_flow_1 0 rfl rfl)
theorem dX3_flow_25 : decode cX3_flow 25 = .ok (.getfield 49, 3) := dk_180 0 49 (dk_at dksX3_flow_1 1 rfl rfl)
theorem dX3_flow_28 : decode cX3_flow 28 = .ok (.aload_n 0, 1) := dk_42 (dk_at dksX3_flow_1 4 rfl rfl)
theorem dX3_flow_29 : decode cX3_flow 29 = .ok (.getfield 34, 3) := dk_180 0 34 (dk_at dksX3_flow_1 5 rfl rfl)
theorem dX3_flow_32 : decode cX3_flow 32 = .ok (.invokevirtual 100, 3) := dk_182 0 100 (dk_at dksX3_flow_1 8 rfl rfl)
theorem dX3_flow_35 : decode cX3_flow 35 = .ok (.irem, 1) := dk_112 (dk_at dksX3_flow_1 11 rfl rfl)
theorem dX3_flow_36 : decode cX3_flow 36 = .ok (.istore_n 1, 1) := dk_60 (dk_at dksX3_flow_1 12 rfl rfl)
theorem dX3_flow_37 : decode cX3_flow 37 = .ok (.iconst 0, 1) := dk_3 (dk_at dksX3_flow_1 13 rfl rfl)
theorem dX3_flow_38 : decode cX3_flow 38 = .ok (.istore_n 2, 1) := dk_61 (dk_at dksX3_flow_1 14 rfl rfl)
theorem dX3_flow_39 : decode cX3_flow 39 = .ok (.iload_n 1, 1) := dk_27 (dk_at dksX3_flow_1 15 rfl rfl)
theorem dX3_flow_40 : decode cX3_flow 40 = .ok (.aload_n 0, 1) := dk_42 (dk_at dksX3_flow_1 16 rfl rfl)
theorem dX3_flow_41 : decode cX3_flow 41 = .ok (.getfield 34, 3) := dk_180 0 34 (dk_at dksX3_flow_1 17 rfl rfl)
theorem dX3_flow_44 : decode cX3_flow 44 = .ok (.getfield 103, 3) := dk_180 0 103 (dk_at dksX3_flow_1 20 rfl rfl)
theorem dX3_flow_47 : decode cX3_flow 47 = .ok (.iconst 1, 1) := dk_4 (dk_at dksX3_flow_1 23 rfl rfl)
theorem dX3_flow_48 : decode cX3_flow 48 = .ok (.isub, 1) := dk_100 (dk_at dksX3_flow_2 0 rfl rfl)
theorem dX3_flow_49 : decode cX3_flow 49 = .ok (.iload_n 2, 1) := dk_28 (dk_at dksX3_flow_2 1 rfl rfl)
theorem dX3_flow_50 : decode cX3_flow 50 = .ok (.isub, 1) := dk_100 (dk_at dksX3_flow_2 2 rfl rfl)
theorem dX3_flow_51 : decode cX3_flow 51 = .ok (.if_icmp .lt 23, 3) := dk_161 0 23 (dk_at dksX3_flow_2 3 rfl rfl)
theorem dX3_flow_54 : decode cX3_flow 54 = .ok (.iload_n 1, 1) := dk_27 (dk_at dksX3_flow_2 6 rfl rfl)
theorem dX3_flow_55 : decode cX3_flow 55 = .ok (.aload_n 0, 1) := dk_42 (dk_at dksX3_flow_2 7 rfl rfl)
theorem dX3_flow_56 : decode cX3_flow 56 = .ok (.getfield 34, 3) := dk_180 0 34 (dk_at dksX3_flow_2 8 rfl rfl)
theorem dX3_flow_59 : decode cX3_flow 59 = .ok (.getfield 103, 3) := dk_180 0 103 (dk_at dksX3_flow_2 11 rfl rfl)
theorem dX3_flow_62 : decode cX3_flow 62 = .ok (.iconst 1, 1) := dk_4 (dk_at dksX3_flow_2 14 rfl rfl)
theorem dX3_flow_63 : decode cX3_flow 63 = .ok (.isub, 1) := dk_100 (dk_at dksX3_flow_2 15 rfl rfl)
theorem dX3_flow_64 : decode cX3_flow 64 = .ok (.iload_n 2, 1) := dk_28 (dk_at dksX3_flow_2 16 rfl rfl)
theorem dX3_flow_65 : decode cX3_flow 65 = .ok (.isub, 1) := dk_100 (dk_at dksX3_flow_2 17 rfl rfl)
theorem dX3_flow_66 : decode cX3_flow 66 = .ok (.isub, 1) := dk_100 (dk_at dksX3_flow_2 18 rfl rfl)
theorem dX3_flow_67 : decode cX3_flow 67 = .ok (.istore_n 1, 1) := dk_60 (dk_at dksX3_flow_2 19 rfl rfl)
theorem dX3_flow_68 : decode cX3_flow 68 = .ok (.iinc 2 1, 3) := dk_132 2 1 (dk_at dksX3_flow_2 20 rfl rfl)
theorem dX3_flow_71 : decode cX3_flow 71 = .ok (.goto (-32), 3) := dk_167 255 224 (dk_at dksX3_flow_3 0 rfl rfl)
theorem dX3_flow_74 : decode cX3_flow 74 = .ok (.aload_n 0, 1) := dk_42 (dk_at dksX3_flow_3 3 rfl rfl)
theorem dX3_flow_75 : decode cX3_flow 75 = .ok (.getfield 34, 3) := dk_180 0 34 (dk_at dksX3_flow_3 4 rfl rfl)
theorem dX3_flow_78 : decode cX3_flow 78 = .ok (.getfield 106, 3) := dk_180 0 106 (dk_at dksX3_flow_3 7 rfl rfl)
theorem dX3_flow_81 : decode cX3_flow 81 = .ok (.iload_n 2, 1) := dk_28 (dk_at dksX3_flow_3 10 rfl rfl)
theorem dX3_flow_82 : decode cX3_flow 82 = .ok (.iaload, 1) := dk_46 (dk_at dksX3_flow_3 11 rfl rfl)
theorem dX3_flow_83 : decode cX3_flow 83 = .ok (.istore_n 3, 1) := dk_62 (dk_at dksX3_flow_3 12 rfl rfl)
theorem dX3_flow_84 : decode cX3_flow 84 = .ok (.aload_n 0, 1) := dk_42 (dk_at dksX3_flow_3 13 rfl rfl)
theorem dX3_flow_85 : decode cX3_flow 85 = .ok (.getfield 34, 3) := dk_180 0 34 (dk_at dksX3_flow_3 14 rfl rfl)
theorem dX3_flow_88 : decode cX3_flow 88 = .ok (.getfield 106, 3) := dk_180 0 106 (dk_at dksX3_flow_3 17 rfl rfl)
theorem dX3_flow_91 : decode cX3_flow 91 = .ok (.iload_n 2, 1) := dk_28 (dk_at dksX3_flow_3 20 rfl rfl)
theorem dX3_flow_92 : decode cX3_flow 92 = .ok (.iconst 1, 1) := dk_4 (dk_at dksX3_flow_3 21 rfl rfl)
theorem dX3_flow_93 : decode cX3_flow 93 = .ok (.iadd, 1) := dk_96 (dk_at dksX3_flow_3 22 rfl rfl)
theorem dX3_flow_94 : decode cX3_flow 94 = .ok (.iload_n 1, 1) := dk_27 (dk_at dksX3_flow_3 23 rfl rfl)
theorem dX3_flow_95 : decode cX3_flow 95 = .ok (.iadd, 1) := dk_96 (dk_at dksX3_flow_4 0 rfl rfl)
theorem dX3_flow_96 : decode cX3_flow 96 = .ok (.iaload, 1) := dk_46 (dk_at dksX3_flow_4 1 rfl rfl)
theorem dX3_flow_97 : decode cX3_flow 97 = .ok (.istore 4, 2) := dk_54 4 (dk_at dksX3_flow_4 2 rfl rfl)
theorem dX3_flow_99 : decode cX3_flow 99 = .ok (.aload_n 0, 1) := dk_42 (dk_at dksX3_flow_4 4 rfl rfl)
theorem dX3_flow_100 : decode cX3_flow 100 = .ok (.getfield 34, 3) := dk_180 0 34 (dk_at dksX3_flow_4 5 rfl rfl)
theorem dX3_flow_103 : decode cX3_flow 103 = .ok (.aload_n 0, 1) := dk_42 (dk_at dksX3_flow_4 8 rfl rfl)
theorem dX3_flow_104 : decode cX3_flow 104 = .ok (.invokevirtual 109, 3) := dk_182 0 109 (dk_at dksX3_flow_4 9 rfl rfl)
theorem dX3_flow_107 : decode cX3_flow 107 = .ok (.iload_n 3, 1) := dk_29 (dk_at dksX3_flow_4 12 rfl rfl)
theorem dX3_flow_108 : decode cX3_flow 108 = .ok (.invokevirtual 112, 3) := dk_182 0 112 (dk_at dksX3_flow_4 13 rfl rfl)
theorem dX3_flow_111 : decode cX3_flow 111 = .ok (.istore 5, 2) := dk_54 5 (dk_at dksX3_flow_4 16 rfl rfl)
theorem dX3_flow_113 : decode cX3_flow 113 = .ok (.iload 5, 2) := dk_21 5 (dk_at dksX3_flow_4 18 rfl rfl)
theorem dX3_flow_115 : decode cX3_flow 115 = .ok (.iload 4, 2) := dk_21 4 (dk_at dksX3_flow_4 20 rfl rfl)
theorem dX3_flow_117 : decode cX3_flow 117 = .ok (.ishr, 1) := dk_122 (dk_at dksX3_flow_4 22 rfl rfl)
theorem dX3_flow_118 : decode cX3_flow 118 = .ok (.iconst 1, 1) := dk_4 (dk_at dksX3_flow_4 23 rfl rfl)
theorem dX3_flow_119 : decode cX3_flow 119 = .ok (.iand, 1) := dk_126 (dk_at dksX3_flow_5 0 rfl rfl)
theorem dX3_flow_120 : decode cX3_flow 120 = .ok (.iconst 1, 1) := dk_4 (dk_at dksX3_flow_5 1 rfl rfl)
theorem dX3_flow_121 : decode cX3_flow 121 = .ok (.if_icmp .ne 12, 3) := dk_160 0 12 (dk_at dksX3_flow_5 2 rfl rfl)
theorem dX3_flow_124 : decode cX3_flow 124 = .ok (.aload_n 0, 1) := dk_42 (dk_at dksX3_flow_5 5 rfl rfl)
theorem dX3_flow_125 : decode cX3_flow 125 = .ok (.iload_n 3, 1) := dk_29 (dk_at dksX3_flow_5 6 rfl rfl)
theorem dX3_flow_126 : decode cX3_flow 126 = .ok (.iload 4, 2) := dk_21 4 (dk_at dksX3_flow_5 7 rfl rfl)
theorem dX3_flow_128 : decode cX3_flow 128 = .ok (.iload 5, 2) := dk_21 5 (dk_at dksX3_flow_5 9 rfl rfl)
theorem dX3_flow_130 : decode cX3_flow 130 = .ok (.invokevirtual 116, 3) := dk_182 0 116 (dk_at dksX3_flow_5 11 rfl rfl)
theorem dX3_flow_133 : decode cX3_flow 133 = .ok (.return_, 1) := dk_177 (dk_at dksX3_flow_5 14 rfl rfl)
abbrev cX3_own : ByteArray := prog_6_method_4_code
def yX3_own : MethodName := ⟨RX3, "own", "()I"⟩
def dkwX3_own_1 : List UInt8 := [167, 0, 4, 3, 128, 60, 132, 2, 1, 167, 255, 228, 27, 172]
abbrev dktX3_own_1 : List UInt8 := dkwX3_own_1 ++ []
def dkwX3_own_0 : List UInt8 := [3, 60, 3, 61, 28, 16, 10, 162, 0, 28, 27, 42, 180, 0, 9, 28, 46, 158, 0, 9, 4, 28, 120]
abbrev dktX3_own_0 : List UInt8 := dkwX3_own_0 ++ dktX3_own_1
theorem dksX3_own_0 : cX3_own.data.toList.drop 0 = dktX3_own_0 := by decide +kernel
theorem dksX3_own_1 : cX3_own.data.toList.drop 23 = dktX3_own_1 := dk_seg dksX3_own_0 23 rfl rfl
theorem dX3_own_0 : decode cX3_own 0 = .ok (.iconst 0, 1) := dk_3 (dk_at dksX3_own_0 0 rfl rfl)
theorem dX3_own_1 : decode cX3_own 1 = .ok (.istore_n 1, 1) := dk_60 (dk_at dksX3_own_0 1 rfl rfl)
theorem dX3_own_2 : decode cX3_own 2 = .ok (.iconst 0, 1) := dk_3 (dk_at dksX3_own_0 2 rfl rfl)
theorem dX3_own_3 : decode cX3_own 3 = .ok (.istore_n 2, 1) := dk_61 (dk_at dksX3_own_0 3 rfl rfl)
theorem dX3_own_4 : decode cX3_own 4 = .ok (.iload_n 2, 1) := dk_28 (dk_at dksX3_own_0 4 rfl rfl)
theorem dX3_own_5 : decode cX3_own 5 = .ok (.bipush 10, 2) := dk_16 10 (dk_at dksX3_own_0 5 rfl rfl)
theorem dX3_own_7 : decode cX3_own 7 = .ok (.if_icmp .ge 28, 3) := dk_162 0 28 (dk_at dksX3_own_0 7 rfl rfl)
theorem dX3_own_10 : decode cX3_own 10 = .ok (.iload_n 1, 1) := dk_27 (dk_at dksX3_own_0 10 rfl rfl)
theorem dX3_own_11 : decode cX3_own 11 = .ok (.aload_n 0, 1) := dk_42 (dk_at dksX3_own_0 11 rfl rfl)
theorem dX3_own_12 : decode cX3_own 12 = .ok (.getfield 9, 3) := dk_180 0 9 (dk_at dksX3_own_0 12 rfl rfl)
theorem dX3_own_15 : decode cX3_own 15 = .ok (.iload_n 2, 1) := dk_28 (dk_at dksX3_own_0 15 rfl rfl)
theorem dX3_own_16 : decode cX3_own 16 = .ok (.iaload, 1) := dk_46 (dk_at dksX3_own_0 16 rfl rfl)
theorem dX3_own_17 : decode cX3_own 17 = .ok (.ifCond .le 9, 3) := dk_158 0 9 (dk_at dksX3_own_0 17 rfl rfl)
theorem dX3_own_20 : decode cX3_own 20 = .ok (.iconst 1, 1) := dk_4 (dk_at dksX3_own_0 20 rfl rfl)
theorem dX3_own_21 : decode cX3_own 21 = .ok (.iload_n 2, 1) := dk_28 (dk_at dksX3_own_0 21 rfl rfl)
theorem dX3_own_22 : decode cX3_own 22 = .ok (.ishl, 1) := dk_120 (dk_at dksX3_own_0 22 rfl rfl)
theorem dX3_own_23 : decode cX3_own 23 = .ok (.goto 4, 3) := dk_167 0 4 (dk_at dksX3_own_1 0 rfl rfl)
theorem dX3_own_26 : decode cX3_own 26 = .ok (.iconst 0, 1) := dk_3 (dk_at dksX3_own_1 3 rfl rfl)
theorem dX3_own_27 : decode cX3_own 27 = .ok (.ior, 1) := dk_128 (dk_at dksX3_own_1 4 rfl rfl)
theorem dX3_own_28 : decode cX3_own 28 = .ok (.istore_n 1, 1) := dk_60 (dk_at dksX3_own_1 5 rfl rfl)
theorem dX3_own_29 : decode cX3_own 29 = .ok (.iinc 2 1, 3) := dk_132 2 1 (dk_at dksX3_own_1 6 rfl rfl)
theorem dX3_own_32 : decode cX3_own 32 = .ok (.goto (-28), 3) := dk_167 255 228 (dk_at dksX3_own_1 9 rfl rfl)
theorem dX3_own_35 : decode cX3_own 35 = .ok (.iload_n 1, 1) := dk_27 (dk_at dksX3_own_1 12 rfl rfl)
theorem dX3_own_36 : decode cX3_own 36 = .ok (.ireturn, 1) := dk_172 (dk_at dksX3_own_1 13 rfl rfl)
abbrev cX3_lay : ByteArray := prog_6_method_10_code
def yX3_lay : MethodName := ⟨RX3, "lay", "(III)V"⟩
def dkwX3_lay_18 : List UInt8 := [180, 0, 127, 47, 42, 180, 0, 28, 25, 5, 180, 0, 130, 47, 101, 105, 80, 132, 4, 1, 167, 255, 163, 177]
abbrev dktX3_lay_18 : List UInt8 := dkwX3_lay_18 ++ []
def dkwX3_lay_17 : List UInt8 := [4, 160, 0, 38, 42, 180, 0, 31, 21, 4, 42, 25, 5, 182, 0, 133, 42, 180, 0, 28, 25, 5]
abbrev dktX3_lay_17 : List UInt8 := dkwX3_lay_17 ++ dktX3_lay_18
def dkwX3_lay_16 : List UInt8 := [192, 0, 65, 58, 5, 42, 180, 0, 9, 21, 4, 46, 158, 0, 51, 29, 25, 5, 180, 0, 127, 122, 4, 126]
abbrev dktX3_lay_16 : List UInt8 := dkwX3_lay_16 ++ dktX3_lay_17
def dkwX3_lay_15 : List UInt8 := [180, 0, 34, 180, 0, 52, 182, 0, 56, 162, 0, 84, 42, 180, 0, 34, 180, 0, 52, 21, 4, 182, 0, 123]
abbrev dktX3_lay_15 : List UInt8 := dkwX3_lay_15 ++ dktX3_lay_16
def dkwX3_lay_14 : List UInt8 := [42, 42, 180, 0, 18, 21, 4, 46, 182, 0, 137, 80, 132, 4, 1, 167, 255, 208, 3, 54, 4, 21, 4, 42]
abbrev dktX3_lay_14 : List UInt8 := dkwX3_lay_14 ++ dktX3_lay_15
def dkwX3_lay_13 : List UInt8 := [162, 0, 42, 42, 180, 0, 28, 21, 4, 42, 180, 0, 18, 21, 4, 46, 2, 160, 0, 7, 9, 167, 0, 14]
abbrev dktX3_lay_13 : List UInt8 := dkwX3_lay_13 ++ dktX3_lay_14
def dkwX3_lay_12 : List UInt8 := [180, 0, 79, 120, 4, 100, 182, 0, 82, 181, 0, 96, 3, 54, 4, 21, 4, 42, 180, 0, 34, 180, 0, 120]
abbrev dktX3_lay_12 : List UInt8 := dkwX3_lay_12 ++ dktX3_lay_13
def dkwX3_lay_11 : List UInt8 := [132, 4, 1, 167, 255, 90, 42, 180, 0, 25, 42, 180, 0, 18, 27, 46, 10, 80, 42, 42, 3, 4, 42]
abbrev dktX3_lay_11 : List UInt8 := dkwX3_lay_11 ++ dktX3_lay_12
def dkwX3_lay_10 : List UInt8 := [22, 8, 101, 80, 42, 180, 0, 21, 16, 6, 21, 7, 104, 21, 6, 96, 92, 47, 22, 8, 101, 80]
abbrev dktX3_lay_10 : List UInt8 := dkwX3_lay_10 ++ dktX3_lay_11
def dkwX3_lay_9 : List UInt8 := [21, 7, 2, 160, 0, 6, 167, 0, 39, 42, 180, 0, 21, 16, 6, 21, 6, 104, 21, 7, 96, 92, 47]
abbrev dktX3_lay_9 : List UInt8 := dkwX3_lay_9 ++ dktX3_lay_10
def dkwX3_lay_8 : List UInt8 := [180, 0, 21, 16, 6, 21, 7, 104, 21, 7, 96, 92, 47, 22, 8, 97, 80, 21, 6, 2, 159, 0, 48]
abbrev dktX3_lay_8 : List UInt8 := dkwX3_lay_8 ++ dktX3_lay_9
def dkwX3_lay_7 : List UInt8 := [180, 0, 21, 16, 6, 21, 6, 104, 21, 6, 96, 92, 47, 22, 8, 97, 80, 21, 7, 2, 159, 0, 21, 42]
abbrev dktX3_lay_7 : List UInt8 := dkwX3_lay_7 ++ dktX3_lay_8
def dkwX3_lay_6 : List UInt8 := [25, 5, 180, 0, 130, 46, 54, 7, 42, 25, 5, 182, 0, 133, 55, 8, 21, 6, 2, 159, 0, 21, 42]
abbrev dktX3_lay_6 : List UInt8 := dkwX3_lay_6 ++ dktX3_lay_7
def dkwX3_lay_5 : List UInt8 := [182, 0, 123, 192, 0, 65, 58, 5, 42, 180, 0, 18, 25, 5, 180, 0, 127, 46, 54, 6, 42, 180, 0, 18]
abbrev dktX3_lay_5 : List UInt8 := dkwX3_lay_5 ++ dktX3_lay_6
def dkwX3_lay_4 : List UInt8 := [42, 180, 0, 34, 180, 0, 52, 182, 0, 56, 162, 0, 157, 42, 180, 0, 34, 180, 0, 52, 21, 4]
abbrev dktX3_lay_4 : List UInt8 := dkwX3_lay_4 ++ dktX3_lay_5
def dkwX3_lay_3 : List UInt8 := [167, 255, 194, 42, 180, 0, 21, 9, 184, 0, 90, 42, 180, 0, 25, 9, 184, 0, 90, 3, 54, 4, 21, 4]
abbrev dktX3_lay_3 : List UInt8 := dkwX3_lay_3 ++ dktX3_lay_4
def dkwX3_lay_2 : List UInt8 := [180, 0, 18, 21, 4, 42, 180, 0, 79, 79, 42, 89, 180, 0, 79, 4, 96, 181, 0, 79, 132, 4, 1]
abbrev dktX3_lay_2 : List UInt8 := dkwX3_lay_2 ++ dktX3_lay_3
def dkwX3_lay_1 : List UInt8 := [21, 4, 2, 79, 21, 4, 28, 159, 0, 36, 29, 21, 4, 122, 4, 126, 154, 0, 6, 167, 0, 24, 42]
abbrev dktX3_lay_1 : List UInt8 := dkwX3_lay_1 ++ dktX3_lay_2
def dkwX3_lay_0 : List UInt8 := [42, 3, 181, 0, 79, 3, 54, 4, 21, 4, 42, 180, 0, 34, 180, 0, 120, 162, 0, 56, 42, 180, 0, 18]
abbrev dktX3_lay_0 : List UInt8 := dkwX3_lay_0 ++ dktX3_lay_1
theorem dksX3_lay_0 : cX3_lay.data.toList.drop 0 = dktX3_lay_0 := by decide +kernel
theorem dksX3_lay_1 : cX3_lay.data.toList.drop 24 = dktX3_lay_1 := dk_seg dksX3_lay_0 24 rfl rfl
theorem dksX3_lay_2 : cX3_lay.data.toList.drop 47 = dktX3_lay_2 := dk_seg dksX3_lay_1 23 rfl rfl
theorem dksX3_lay_3 : cX3_lay.data.toList.drop 70 = dktX3_lay_3 := dk_seg dksX3_lay_2 23 rfl rfl
theorem dksX3_lay_4 : cX3_lay.data.toList.drop 94 = dktX3_lay_4 := dk_seg dksX3_lay_3 24 rfl rfl
theorem dksX3_lay_5 : cX3_lay.data.toList.drop 116 = dktX3_lay_5 := dk_seg dksX3_lay_4 22 rfl rfl
theorem dksX3_lay_6 : cX3_lay.data.toList.drop 140 = dktX3_lay_6 := dk_seg dksX3_lay_5 24 rfl rfl
theorem dksX3_lay_7 : cX3_lay.data.toList.drop 163 = dktX3_lay_7 := dk_seg dksX3_lay_6 23 rfl rfl
theorem dksX3_lay_8 : cX3_lay.data.toList.drop 187 = dktX3_lay_8 := dk_seg dksX3_lay_7 24 rfl rfl
theorem dksX3_lay_9 : cX3_lay.data.toList.drop 210 = dktX3_lay_9 := dk_seg dksX3_lay_8 23 rfl rfl
theorem dksX3_lay_10 : cX3_lay.data.toList.drop 233 = dktX3_lay_10 := dk_seg dksX3_lay_9 23 rfl rfl
theorem dksX3_lay_11 : cX3_lay.data.toList.drop 255 = dktX3_lay_11 := dk_seg dksX3_lay_10 22 rfl rfl
theorem dksX3_lay_12 : cX3_lay.data.toList.drop 278 = dktX3_lay_12 := dk_seg dksX3_lay_11 23 rfl rfl
theorem dksX3_lay_13 : cX3_lay.data.toList.drop 302 = dktX3_lay_13 := dk_seg dksX3_lay_12 24 rfl rfl
theorem dksX3_lay_14 : cX3_lay.data.toList.drop 326 = dktX3_lay_14 := dk_seg dksX3_lay_13 24 rfl rfl
theorem dksX3_lay_15 : cX3_lay.data.toList.drop 350 = dktX3_lay_15 := dk_seg dksX3_lay_14 24 rfl rfl
theorem dksX3_lay_16 : cX3_lay.data.toList.drop 374 = dktX3_lay_16 := dk_seg dksX3_lay_15 24 rfl rfl
theorem dksX3_lay_17 : cX3_lay.data.toList.drop 398 = dktX3_lay_17 := dk_seg dksX3_lay_16 24 rfl rfl
theorem dksX3_lay_18 : cX3_lay.data.toList.drop 420 = dktX3_lay_18 := dk_seg dksX3_lay_17 22 rfl rfl
theorem dX3_lay_0 : decode cX3_lay 0 = .ok (.aload_n 0, 1) := dk_42 (dk_at dksX3_lay_0 0 rfl rfl)
theorem dX3_lay_1 : decode cX3_lay 1 = .ok (.iconst 0, 1) := dk_3 (dk_at dksX3_lay_0 1 rfl rfl)
theorem dX3_lay_2 : decode cX3_lay 2 = .ok (.putfield 79, 3) := dk_181 0 79 (dk_at dksX3_lay_0 2 rfl rfl)
theorem dX3_lay_5 : decode cX3_lay 5 = .ok (.iconst 0, 1) := dk_3 (dk_at dksX3_lay_0 5 rfl rfl)
theorem dX3_lay_6 : decode cX3_lay 6 = .ok (.istore 4, 2) := dk_54 4 (dk_at dksX3_lay_0 6 rfl rfl)
theorem dX3_lay_8 : decode cX3_lay 8 = .ok (.iload 4, 2) := dk_21 4 (dk_at dksX3_lay_0 8 rfl rfl)
theorem dX3_lay_10 : decode cX3_lay 10 = .ok (.aload_n 0, 1) := dk_42 (dk_at dksX3_lay_0 10 rfl rfl)
theorem dX3_lay_11 : decode cX3_lay 11 = .ok (.getfield 34, 3) := dk_180 0 34 (dk_at dksX3_lay_0 11 rfl rfl)
theorem dX3_lay_14 : decode cX3_lay 14 = .ok (.getfield 120, 3) := dk_180 0 120 (dk_at dksX3_lay_0 14 rfl rfl)
theorem dX3_lay_17 : decode cX3_lay 17 = .ok (.if_icmp .ge 56, 3) := dk_162 0 56 (dk_at dksX3_lay_0 17 rfl rfl)
theorem dX3_lay_20 : decode cX3_lay 20 = .ok (.aload_n 0, 1) := dk_42 (dk_at dksX3_lay_0 20 rfl rfl)
theorem dX3_lay_21 : decode cX3_lay 21 = .ok (.getfield 18, 3) := dk_180 0 18 (dk_at dksX3_lay_0 21 rfl rfl)
theorem dX3_lay_24 : decode cX3_lay 24 = .ok (.iload 4, 2) := dk_21 4 (dk_at dksX3_lay_1 0 rfl rfl)
theorem dX3_lay_26 : decode cX3_lay 26 = .ok (.iconst (-1), 1) := dk_2 (dk_at dksX3_lay_1 2 rfl rfl)
theorem dX3_lay_27 : decode cX3_lay 27 = .ok (.iastore, 1) := dk_79 (dk_at dksX3_lay_1 3 rfl rfl)
theorem dX3_lay_28 : decode cX3_lay 28 = .ok (.iload 4, 2) := dk_21 4 (dk_at dksX3_lay_1 4 rfl rfl)
theorem dX3_lay_30 : decode cX3_lay 30 = .ok (.iload_n 2, 1) := dk_28 (dk_at dksX3_lay_1 6 rfl rfl)
theorem dX3_lay_31 : decode cX3_lay 31 = .ok (.if_icmp .eq 36, 3) := dk_159 0 36 (dk_at dksX3_lay_1 7 rfl rfl)
theorem dX3_lay_34 : decode cX3_lay 34 = .ok (.iload_n 3, 1) := dk_29 (dk_at dksX3_lay_1 10 rfl rfl)
theorem dX3_lay_35 : decode cX3_lay 35 = .ok (.iload 4, 2) := dk_21 4 (dk_at dksX3_lay_1 11 rfl rfl)
theorem dX3_lay_37 : decode cX3_lay 37 = .ok (.ishr, 1) := dk_122 (dk_at dksX3_lay_1 13 rfl rfl)
theorem dX3_lay_38 : decode cX3_lay 38 = .ok (.iconst 1, 1) := dk_4 (dk_at dksX3_lay_1 14 rfl rfl)
theorem dX3_lay_39 : decode cX3_lay 39 = .ok (.iand, 1) := dk_126 (dk_at dksX3_lay_1 15 rfl rfl)
theorem dX3_lay_40 : decode cX3_lay 40 = .ok (.ifCond .ne 6, 3) := dk_154 0 6 (dk_at dksX3_lay_1 16 rfl rfl)
theorem dX3_lay_43 : decode cX3_lay 43 = .ok (.goto 24, 3) := dk_167 0 24 (dk_at dksX3_lay_1 19 rfl rfl)
theorem dX3_lay_46 : decode cX3_lay 46 = .ok (.aload_n 0, 1) := dk_42 (dk_at dksX3_lay_1 22 rfl rfl)
theorem dX3_lay_47 : decode cX3_lay 47 = .ok (.getfield 18, 3) := dk_180 0 18 (dk_at dksX3_lay_2 0 rfl rfl)
theorem dX3_lay_50 : decode cX3_lay 50 = .ok (.iload 4, 2) := dk_21 4 (dk_at dksX3_lay_2 3 rfl rfl)
theorem dX3_lay_52 : decode cX3_lay 52 = .ok (.aload_n 0, 1) := dk_42 (dk_at dksX3_lay_2 5 rfl rfl)
theorem dX3_lay_53 : decode cX3_lay 53 = .ok (.getfield 79, 3) := dk_180 0 79 (dk_at dksX3_lay_2 6 rfl rfl)
theorem dX3_lay_56 : decode cX3_lay 56 = .ok (.iastore, 1) := dk_79 (dk_at dksX3_lay_2 9 rfl rfl)
theorem dX3_lay_57 : decode cX3_lay 57 = .ok (.aload_n 0, 1) := dk_42 (dk_at dksX3_lay_2 10 rfl rfl)
theorem dX3_lay_58 : decode cX3_lay 58 = .ok (.dup, 1) := dk_89 (dk_at dksX3_lay_2 11 rfl rfl)
theorem dX3_lay_59 : decode cX3_lay 59 = .ok (.getfield 79, 3) := dk_180 0 79 (dk_at dksX3_lay_2 12 rfl rfl)
theorem dX3_lay_62 : decode cX3_lay 62 = .ok (.iconst 1, 1) := dk_4 (dk_at dksX3_lay_2 15 rfl rfl)
theorem dX3_lay_63 : decode cX3_lay 63 = .ok (.iadd, 1) := dk_96 (dk_at dksX3_lay_2 16 rfl rfl)
theorem dX3_lay_64 : decode cX3_lay 64 = .ok (.putfield 79, 3) := dk_181 0 79 (dk_at dksX3_lay_2 17 rfl rfl)
theorem dX3_lay_67 : decode cX3_lay 67 = .ok (.iinc 4 1, 3) := dk_132 4 1 (dk_at dksX3_lay_2 20 rfl rfl)
theorem dX3_lay_70 : decode cX3_lay 70 = .ok (.goto (-62), 3) := dk_167 255 194 (dk_at dksX3_lay_3 0 rfl rfl)
theorem dX3_lay_73 : decode cX3_lay 73 = .ok (.aload_n 0, 1) := dk_42 (dk_at dksX3_lay_3 3 rfl rfl)
theorem dX3_lay_74 : decode cX3_lay 74 = .ok (.getfield 21, 3) := dk_180 0 21 (dk_at dksX3_lay_3 4 rfl rfl)
theorem dX3_lay_77 : decode cX3_lay 77 = .ok (.lconst 0, 1) := dk_9 (dk_at dksX3_lay_3 7 rfl rfl)
theorem dX3_lay_78 : decode cX3_lay 78 = .ok (.invokestatic 90, 3) := dk_184 0 90 (dk_at dksX3_lay_3 8 rfl rfl)
theorem dX3_lay_81 : decode cX3_lay 81 = .ok (.aload_n 0, 1) := dk_42 (dk_at dksX3_lay_3 11 rfl rfl)
theorem dX3_lay_82 : decode cX3_lay 82 = .ok (.getfield 25, 3) := dk_180 0 25 (dk_at dksX3_lay_3 12 rfl rfl)
theorem dX3_lay_85 : decode cX3_lay 85 = .ok (.lconst 0, 1) := dk_9 (dk_at dksX3_lay_3 15 rfl rfl)
theorem dX3_lay_86 : decode cX3_lay 86 = .ok (.invokestatic 90, 3) := dk_184 0 90 (dk_at dksX3_lay_3 16 rfl rfl)
theorem dX3_lay_89 : decode cX3_lay 89 = .ok (.iconst 0, 1) := dk_3 (dk_at dksX3_lay_3 19 rfl rfl)
theorem dX3_lay_90 : decode cX3_lay 90 = .ok (.istore 4, 2) := dk_54 4 (dk_at dksX3_lay_3 20 rfl rfl)
theorem dX3_lay_92 : decode cX3_lay 92 = .ok (.iload 4, 2) := dk_21 4 (dk_at dksX3_lay_3 22 rfl rfl)
theorem dX3_lay_94 : decode cX3_lay 94 = .ok (.aload_n 0, 1) := dk_42 (dk_at dksX3_lay_4 0 rfl rfl)
theorem dX3_lay_95 : decode cX3_lay 95 = .ok (.getfield 34, 3) := dk_180 0 34 (dk_at dksX3_lay_4 1 rfl rfl)
theorem dX3_lay_98 : decode cX3_lay 98 = .ok (.getfield 52, 3) := dk_180 0 52 (dk_at dksX3_lay_4 4 rfl rfl)
theorem dX3_lay_101 : decode cX3_lay 101 = .ok (.invokevirtual 56, 3) := dk_182 0 56 (dk_at dksX3_lay_4 7 rfl rfl)
theorem dX3_lay_104 : decode cX3_lay 104 = .ok (.if_icmp .ge 157, 3) := dk_162 0 157 (dk_at dksX3_lay_4 10 rfl rfl)
theorem dX3_lay_107 : decode cX3_lay 107 = .ok (.aload_n 0, 1) := dk_42 (dk_at dksX3_lay_4 13 rfl rfl)
theorem dX3_lay_108 : decode cX3_lay 108 = .ok (.getfield 34, 3) := dk_180 0 34 (dk_at dksX3_lay_4 14 rfl rfl)
theorem dX3_lay_111 : decode cX3_lay 111 = .ok (.getfield 52, 3) := dk_180 0 52 (dk_at dksX3_lay_4 17 rfl rfl)
theorem dX3_lay_114 : decode cX3_lay 114 = .ok (.iload 4, 2) := dk_21 4 (dk_at dksX3_lay_4 20 rfl rfl)
theorem dX3_lay_116 : decode cX3_lay 116 = .ok (.invokevirtual 123, 3) := dk_182 0 123 (dk_at dksX3_lay_5 0 rfl rfl)
theorem dX3_lay_119 : decode cX3_lay 119 = .ok (.checkcast 65, 3) := dk_192 0 65 (dk_at dksX3_lay_5 3 rfl rfl)
theorem dX3_lay_122 : decode cX3_lay 122 = .ok (.astore 5, 2) := dk_58 5 (dk_at dksX3_lay_5 6 rfl rfl)
theorem dX3_lay_124 : decode cX3_lay 124 = .ok (.aload_n 0, 1) := dk_42 (dk_at dksX3_lay_5 8 rfl rfl)
theorem dX3_lay_125 : decode cX3_lay 125 = .ok (.getfield 18, 3) := dk_180 0 18 (dk_at dksX3_lay_5 9 rfl rfl)
theorem dX3_lay_128 : decode cX3_lay 128 = .ok (.aload 5, 2) := dk_25 5 (dk_at dksX3_lay_5 12 rfl rfl)
theorem dX3_lay_130 : decode cX3_lay 130 = .ok (.getfield 127, 3) := dk_180 0 127 (dk_at dksX3_lay_5 14 rfl rfl)
theorem dX3_lay_133 : decode cX3_lay 133 = .ok (.iaload, 1) := dk_46 (dk_at dksX3_lay_5 17 rfl rfl)
theorem dX3_lay_134 : decode cX3_lay 134 = .ok (.istore 6, 2) := dk_54 6 (dk_at dksX3_lay_5 18 rfl rfl)
theorem dX3_lay_136 : decode cX3_lay 136 = .ok (.aload_n 0, 1) := dk_42 (dk_at dksX3_lay_5 20 rfl rfl)
theorem dX3_lay_137 : decode cX3_lay 137 = .ok (.getfield 18, 3) := dk_180 0 18 (dk_at dksX3_lay_5 21 rfl rfl)
theorem dX3_lay_140 : decode cX3_lay 140 = .ok (.aload 5, 2) := dk_25 5 (dk_at dksX3_lay_6 0 rfl rfl)
theorem dX3_lay_142 : decode cX3_lay 142 = .ok (.getfield 130, 3) := dk_180 0 130 (dk_at dksX3_lay_6 2 rfl rfl)
theorem dX3_lay_145 : decode cX3_lay 145 = .ok (.iaload, 1) := dk_46 (dk_at dksX3_lay_6 5 rfl rfl)
theorem dX3_lay_146 : decode cX3_lay 146 = .ok (.istore 7, 2) := dk_54 7 (dk_at dksX3_lay_6 6 rfl rfl)
theorem dX3_lay_148 : decode cX3_lay 148 = .ok (.aload_n 0, 1) := dk_42 (dk_at dksX3_lay_6 8 rfl rfl)
theorem dX3_lay_149 : decode cX3_lay 149 = .ok (.aload 5, 2) := dk_25 5 (dk_at dksX3_lay_6 9 rfl rfl)
theorem dX3_lay_151 : decode cX3_lay 151 = .ok (.invokevirtual 133, 3) := dk_182 0 133 (dk_at dksX3_lay_6 11 rfl rfl)
theorem dX3_lay_154 : decode cX3_lay 154 = .ok (.lstore 8, 2) := dk_55 8 (dk_at dksX3_lay_6 14 rfl rfl)
theorem dX3_lay_156 : decode cX3_lay 156 = .ok (.iload 6, 2) := dk_21 6 (dk_at dksX3_lay_6 16 rfl rfl)
theorem dX3_lay_158 : decode cX3_lay 158 = .ok (.iconst (-1), 1) := dk_2 (dk_at dksX3_lay_6 18 rfl rfl)
theorem dX3_lay_159 : decode cX3_lay 159 = .ok (.if_icmp .eq 21, 3) := dk_159 0 21 (dk_at dksX3_lay_6 19 rfl rfl)
theorem dX3_lay_162 : decode cX3_lay 162 = .ok (.aload_n 0, 1) := dk_42 (dk_at dksX3_lay_6 22 rfl rfl)
theorem dX3_lay_163 : decode cX3_lay 163 = .ok (.getfield 21, 3) := dk_180 0 21 (dk_at dksX3_lay_7 0 rfl rfl)
theorem dX3_lay_166 : decode cX3_lay 166 = .ok (.bipush 6, 2) := dk_16 6 (dk_at dksX3_lay_7 3 rfl rfl)
theorem dX3_lay_168 : decode cX3_lay 168 = .ok (.iload 6, 2) := dk_21 6 (dk_at dksX3_lay_7 5 rfl rfl)
theorem dX3_lay_170 : decode cX3_lay 170 = .ok (.imul, 1) := dk_104 (dk_at dksX3_lay_7 7 rfl rfl)
theorem dX3_lay_171 : decode cX3_lay 171 = .ok (.iload 6, 2) := dk_21 6 (dk_at dksX3_lay_7 8 rfl rfl)
theorem dX3_lay_173 : decode cX3_lay 173 = .ok (.iadd, 1) := dk_96 (dk_at dksX3_lay_7 10 rfl rfl)
theorem dX3_lay_174 : decode cX3_lay 174 = .ok (.dup2, 1) := dk_92 (dk_at dksX3_lay_7 11 rfl rfl)
theorem dX3_lay_175 : decode cX3_lay 175 = .ok (.laload, 1) := dk_47 (dk_at dksX3_lay_7 12 rfl rfl)
theorem dX3_lay_176 : decode cX3_lay 176 = .ok (.lload 8, 2) := dk_22 8 (dk_at dksX3_lay_7 13 rfl rfl)
theorem dX3_lay_178 : decode cX3_lay 178 = .ok (.ladd, 1) := dk_97 (dk_at dksX3_lay_7 15 rfl rfl)
theorem dX3_lay_179 : decode cX3_lay 179 = .ok (.lastore, 1) := dk_80 (dk_at dksX3_lay_7 16 rfl rfl)
theorem dX3_lay_180 : decode cX3_lay 180 = .ok (.iload 7, 2) := dk_21 7 (dk_at dksX3_lay_7 17 rfl rfl)
theorem dX3_lay_182 : decode cX3_lay 182 = .ok (.iconst (-1), 1) := dk_2 (dk_at dksX3_lay_7 19 rfl rfl)
theorem dX3_lay_183 : decode cX3_lay 183 = .ok (.if_icmp .eq 21, 3) := dk_159 0 21 (dk_at dksX3_lay_7 20 rfl rfl)
theorem dX3_lay_186 : decode cX3_lay 186 = .ok (.aload_n 0, 1) := dk_42 (dk_at dksX3_lay_7 23 rfl rfl)
theorem dX3_lay_187 : decode cX3_lay 187 = .ok (.getfield 21, 3) := dk_180 0 21 (dk_at dksX3_lay_8 0 rfl rfl)
theorem dX3_lay_190 : decode cX3_lay 190 = .ok (.bipush 6, 2) := dk_16 6 (dk_at dksX3_lay_8 3 rfl rfl)
theorem dX3_lay_192 : decode cX3_lay 192 = .ok (.iload 7, 2) := dk_21 7 (dk_at dksX3_lay_8 5 rfl rfl)
theorem dX3_lay_194 : decode cX3_lay 194 = .ok (.imul, 1) := dk_104 (dk_at dksX3_lay_8 7 rfl rfl)
theorem dX3_lay_195 : decode cX3_lay 195 = .ok (.iload 7, 2) := dk_21 7 (dk_at dksX3_lay_8 8 rfl rfl)
theorem dX3_lay_197 : decode cX3_lay 197 = .ok (.iadd, 1) := dk_96 (dk_at dksX3_lay_8 10 rfl rfl)
theorem dX3_lay_198 : decode cX3_lay 198 = .ok (.dup2, 1) := dk_92 (dk_at dksX3_lay_8 11 rfl rfl)
theorem dX3_lay_199 : decode cX3_lay 199 = .ok (.laload, 1) := dk_47 (dk_at dksX3_lay_8 12 rfl rfl)
theorem dX3_lay_200 : decode cX3_lay 200 = .ok (.lload 8, 2) := dk_22 8 (dk_at dksX3_lay_8 13 rfl rfl)
theorem dX3_lay_202 : decode cX3_lay 202 = .ok (.ladd, 1) := dk_97 (dk_at dksX3_lay_8 15 rfl rfl)
theorem dX3_lay_203 : decode cX3_lay 203 = .ok (.lastore, 1) := dk_80 (dk_at dksX3_lay_8 16 rfl rfl)
theorem dX3_lay_204 : decode cX3_lay 204 = .ok (.iload 6, 2) := dk_21 6 (dk_at dksX3_lay_8 17 rfl rfl)
theorem dX3_lay_206 : decode cX3_lay 206 = .ok (.iconst (-1), 1) := dk_2 (dk_at dksX3_lay_8 19 rfl rfl)
theorem dX3_lay_207 : decode cX3_lay 207 = .ok (.if_icmp .eq 48, 3) := dk_159 0 48 (dk_at dksX3_lay_8 20 rfl rfl)
theorem dX3_lay_210 : decode cX3_lay 210 = .ok (.iload 7, 2) := dk_21 7 (dk_at dksX3_lay_9 0 rfl rfl)
theorem dX3_lay_212 : decode cX3_lay 212 = .ok (.iconst (-1), 1) := dk_2 (dk_at dksX3_lay_9 2 rfl rfl)
theorem dX3_lay_213 : decode cX3_lay 213 = .ok (.if_icmp .ne 6, 3) := dk_160 0 6 (dk_at dksX3_lay_9 3 rfl rfl)
theorem dX3_lay_216 : decode cX3_lay 216 = .ok (.goto 39, 3) := dk_167 0 39 (dk_at dksX3_lay_9 6 rfl rfl)
theorem dX3_lay_219 : decode cX3_lay 219 = .ok (.aload_n 0, 1) := dk_42 (dk_at dksX3_lay_9 9 rfl rfl)
theorem dX3_lay_220 : decode cX3_lay 220 = .ok (.getfield 21, 3) := dk_180 0 21 (dk_at dksX3_lay_9 10 rfl rfl)
theorem dX3_lay_223 : decode cX3_lay 223 = .ok (.bipush 6, 2) := dk_16 6 (dk_at dksX3_lay_9 13 rfl rfl)
theorem dX3_lay_225 : decode cX3_lay 225 = .ok (.iload 6, 2) := dk_21 6 (dk_at dksX3_lay_9 15 rfl rfl)
theorem dX3_lay_227 : decode cX3_lay 227 = .ok (.imul, 1) := dk_104 (dk_at dksX3_lay_9 17 rfl rfl)
theorem dX3_lay_228 : decode cX3_lay 228 = .ok (.iload 7, 2) := dk_21 7 (dk_at dksX3_lay_9 18 rfl rfl)
theorem dX3_lay_230 : decode cX3_lay 230 = .ok (.iadd, 1) := dk_96 (dk_at dksX3_lay_9 20 rfl rfl)
theorem dX3_lay_231 : decode cX3_lay 231 = .ok (.dup2, 1) := dk_92 (dk_at dksX3_lay_9 21 rfl rfl)
theorem dX3_lay_232 : decode cX3_lay 232 = .ok (.laload, 1) := dk_47 (dk_at dksX3_lay_9 22 rfl rfl)
theorem dX3_lay_233 : decode cX3_lay 233 = .ok (.lload 8, 2) := dk_22 8 (dk_at dksX3_lay_10 0 rfl rfl)
theorem dX3_lay_235 : decode cX3_lay 235 = .ok (.lsub, 1) := dk_101 (dk_at dksX3_lay_10 2 rfl rfl)
theorem dX3_lay_236 : decode cX3_lay 236 = .ok (.lastore, 1) := dk_80 (dk_at dksX3_lay_10 3 rfl rfl)
theorem dX3_lay_237 : decode cX3_lay 237 = .ok (.aload_n 0, 1) := dk_42 (dk_at dksX3_lay_10 4 rfl rfl)
theorem dX3_lay_238 : decode cX3_lay 238 = .ok (.getfield 21, 3) := dk_180 0 21 (dk_at dksX3_lay_10 5 rfl rfl)
theorem dX3_lay_241 : decode cX3_lay 241 = .ok (.bipush 6, 2) := dk_16 6 (dk_at dksX3_lay_10 8 rfl rfl)
theorem dX3_lay_243 : decode cX3_lay 243 = .ok (.iload 7, 2) := dk_21 7 (dk_at dksX3_lay_10 10 rfl rfl)
theorem dX3_lay_245 : decode cX3_lay 245 = .ok (.imul, 1) := dk_104 (dk_at dksX3_lay_10 12 rfl rfl)
theorem dX3_lay_246 : decode cX3_lay 246 = .ok (.iload 6, 2) := dk_21 6 (dk_at dksX3_lay_10 13 rfl rfl)
theorem dX3_lay_248 : decode cX3_lay 248 = .ok (.iadd, 1) := dk_96 (dk_at dksX3_lay_10 15 rfl rfl)
theorem dX3_lay_249 : decode cX3_lay 249 = .ok (.dup2, 1) := dk_92 (dk_at dksX3_lay_10 16 rfl rfl)
theorem dX3_lay_250 : decode cX3_lay 250 = .ok (.laload, 1) := dk_47 (dk_at dksX3_lay_10 17 rfl rfl)
theorem dX3_lay_251 : decode cX3_lay 251 = .ok (.lload 8, 2) := dk_22 8 (dk_at dksX3_lay_10 18 rfl rfl)
theorem dX3_lay_253 : decode cX3_lay 253 = .ok (.lsub, 1) := dk_101 (dk_at dksX3_lay_10 20 rfl rfl)
theorem dX3_lay_254 : decode cX3_lay 254 = .ok (.lastore, 1) := dk_80 (dk_at dksX3_lay_10 21 rfl rfl)
theorem dX3_lay_255 : decode cX3_lay 255 = .ok (.iinc 4 1, 3) := dk_132 4 1 (dk_at dksX3_lay_11 0 rfl rfl)
theorem dX3_lay_258 : decode cX3_lay 258 = .ok (.goto (-166), 3) := dk_167 255 90 (dk_at dksX3_lay_11 3 rfl rfl)
theorem dX3_lay_261 : decode cX3_lay 261 = .ok (.aload_n 0, 1) := dk_42 (dk_at dksX3_lay_11 6 rfl rfl)
theorem dX3_lay_262 : decode cX3_lay 262 = .ok (.getfield 25, 3) := dk_180 0 25 (dk_at dksX3_lay_11 7 rfl rfl)
theorem dX3_lay_265 : decode cX3_lay 265 = .ok (.aload_n 0, 1) := dk_42 (dk_at dksX3_lay_11 10 rfl rfl)
theorem dX3_lay_266 : decode cX3_lay 266 = .ok (.getfield 18, 3) := dk_180 0 18 (dk_at dksX3_lay_11 11 rfl rfl)
theorem dX3_lay_269 : decode cX3_lay 269 = .ok (.iload_n 1, 1) := dk_27 (dk_at dksX3_lay_11 14 rfl rfl)
theorem dX3_lay_270 : decode cX3_lay 270 = .ok (.iaload, 1) := dk_46 (dk_at dksX3_lay_11 15 rfl rfl)
theorem dX3_lay_271 : decode cX3_lay 271 = .ok (.lconst 1, 1) := dk_10 (dk_at dksX3_lay_11 16 rfl rfl)
theorem dX3_lay_272 : decode cX3_lay 272 = .ok (.lastore, 1) := dk_80 (dk_at dksX3_lay_11 17 rfl rfl)
theorem dX3_lay_273 : decode cX3_lay 273 = .ok (.aload_n 0, 1) := dk_42 (dk_at dksX3_lay_11 18 rfl rfl)
theorem dX3_lay_274 : decode cX3_lay 274 = .ok (.aload_n 0, 1) := dk_42 (dk_at dksX3_lay_11 19 rfl rfl)
theorem dX3_lay_275 : decode cX3_lay 275 = .ok (.iconst 0, 1) := dk_3 (dk_at dksX3_lay_11 20 rfl rfl)
theorem dX3_lay_276 : decode cX3_lay 276 = .ok (.iconst 1, 1) := dk_4 (dk_at dksX3_lay_11 21 rfl rfl)
theorem dX3_lay_277 : decode cX3_lay 277 = .ok (.aload_n 0, 1) := dk_42 (dk_at dksX3_lay_11 22 rfl rfl)
theorem dX3_lay_278 : decode cX3_lay 278 = .ok (.getfield 79, 3) := dk_180 0 79 (dk_at dksX3_lay_12 0 rfl rfl)
theorem dX3_lay_281 : decode cX3_lay 281 = .ok (.ishl, 1) := dk_120 (dk_at dksX3_lay_12 3 rfl rfl)
theorem dX3_lay_282 : decode cX3_lay 282 = .ok (.iconst 1, 1) := dk_4 (dk_at dksX3_lay_12 4 rfl rfl)
theorem dX3_lay_283 : decode cX3_lay 283 = .ok (.isub, 1) := dk_100 (dk_at dksX3_lay_12 5 rfl rfl)
theorem dX3_lay_284 : decode cX3_lay 284 = .ok (.invokevirtual 82, 3) := dk_182 0 82 (dk_at dksX3_lay_12 6 rfl rfl)
theorem dX3_lay_287 : decode cX3_lay 287 = .ok (.putfield 96, 3) := dk_181 0 96 (dk_at dksX3_lay_12 9 rfl rfl)
theorem dX3_lay_290 : decode cX3_lay 290 = .ok (.iconst 0, 1) := dk_3 (dk_at dksX3_lay_12 12 rfl rfl)
theorem dX3_lay_291 : decode cX3_lay 291 = .ok (.istore 4, 2) := dk_54 4 (dk_at dksX3_lay_12 13 rfl rfl)
theorem dX3_lay_293 : decode cX3_lay 293 = .ok (.iload 4, 2) := dk_21 4 (dk_at dksX3_lay_12 15 rfl rfl)
theorem dX3_lay_295 : decode cX3_lay 295 = .ok (.aload_n 0, 1) := dk_42 (dk_at dksX3_lay_12 17 rfl rfl)
theorem dX3_lay_296 : decode cX3_lay 296 = .ok (.getfield 34, 3) := dk_180 0 34 (dk_at dksX3_lay_12 18 rfl rfl)
theorem dX3_lay_299 : decode cX3_lay 299 = .ok (.getfield 120, 3) := dk_180 0 120 (dk_at dksX3_lay_12 21 rfl rfl)
theorem dX3_lay_302 : decode cX3_lay 302 = .ok (.if_icmp .ge 42, 3) := dk_162 0 42 (dk_at dksX3_lay_13 0 rfl rfl)
theorem dX3_lay_305 : decode cX3_lay 305 = .ok (.aload_n 0, 1) := dk_42 (dk_at dksX3_lay_13 3 rfl rfl)
theorem dX3_lay_306 : decode cX3_lay 306 = .ok (.getfield 28, 3) := dk_180 0 28 (dk_at dksX3_lay_13 4 rfl rfl)
theorem dX3_lay_309 : decode cX3_lay 309 = .ok (.iload 4, 2) := dk_21 4 (dk_at dksX3_lay_13 7 rfl rfl)
theorem dX3_lay_311 : decode cX3_lay 311 = .ok (.aload_n 0, 1) := dk_42 (dk_at dksX3_lay_13 9 rfl rfl)
theorem dX3_lay_312 : decode cX3_lay 312 = .ok (.getfield 18, 3) := dk_180 0 18 (dk_at dksX3_lay_13 10 rfl rfl)
theorem dX3_lay_315 : decode cX3_lay 315 = .ok (.iload 4, 2) := dk_21 4 (dk_at dksX3_lay_13 13 rfl rfl)
theorem dX3_lay_317 : decode cX3_lay 317 = .ok (.iaload, 1) := dk_46 (dk_at dksX3_lay_13 15 rfl rfl)
theorem dX3_lay_318 : decode cX3_lay 318 = .ok (.iconst (-1), 1) := dk_2 (dk_at dksX3_lay_13 16 rfl rfl)
theorem dX3_lay_319 : decode cX3_lay 319 = .ok (.if_icmp .ne 7, 3) := dk_160 0 7 (dk_at dksX3_lay_13 17 rfl rfl)
theorem dX3_lay_322 : decode cX3_lay 322 = .ok (.lconst 0, 1) := dk_9 (dk_at dksX3_lay_13 20 rfl rfl)
theorem dX3_lay_323 : decode cX3_lay 323 = .ok (.goto 14, 3) := dk_167 0 14 (dk_at dksX3_lay_13 21 rfl rfl)
theorem dX3_lay_326 : decode cX3_lay 326 = .ok (.aload_n 0, 1) := dk_42 (dk_at dksX3_lay_14 0 rfl rfl)
theorem dX3_lay_327 : decode cX3_lay 327 = .ok (.aload_n 0, 1) := dk_42 (dk_at dksX3_lay_14 1 rfl rfl)
theorem dX3_lay_328 : decode cX3_lay 328 = .ok (.getfield 18, 3) := dk_180 0 18 (dk_at dksX3_lay_14 2 rfl rfl)
theorem dX3_lay_331 : decode cX3_lay 331 = .ok (.iload 4, 2) := dk_21 4 (dk_at dksX3_lay_14 5 rfl rfl)
theorem dX3_lay_333 : decode cX3_lay 333 = .ok (.iaload, 1) := dk_46 (dk_at dksX3_lay_14 7 rfl rfl)
theorem dX3_lay_334 : decode cX3_lay 334 = .ok (.invokevirtual 137, 3) := dk_182 0 137 (dk_at dksX3_lay_14 8 rfl rfl)
theorem dX3_lay_337 : decode cX3_lay 337 = .ok (.lastore, 1) := dk_80 (dk_at dksX3_lay_14 11 rfl rfl)
theorem dX3_lay_338 : decode cX3_lay 338 = .ok (.iinc 4 1, 3) := dk_132 4 1 (dk_at dksX3_lay_14 12 rfl rfl)
theorem dX3_lay_341 : decode cX3_lay 341 = .ok (.goto (-48), 3) := dk_167 255 208 (dk_at dksX3_lay_14 15 rfl rfl)
theorem dX3_lay_344 : decode cX3_lay 344 = .ok (.iconst 0, 1) := dk_3 (dk_at dksX3_lay_14 18 rfl rfl)
theorem dX3_lay_345 : decode cX3_lay 345 = .ok (.istore 4, 2) := dk_54 4 (dk_at dksX3_lay_14 19 rfl rfl)
theorem dX3_lay_347 : decode cX3_lay 347 = .ok (.iload 4, 2) := dk_21 4 (dk_at dksX3_lay_14 21 rfl rfl)
theorem dX3_lay_349 : decode cX3_lay 349 = .ok (.aload_n 0, 1) := dk_42 (dk_at dksX3_lay_14 23 rfl rfl)
theorem dX3_lay_350 : decode cX3_lay 350 = .ok (.getfield 34, 3) := dk_180 0 34 (dk_at dksX3_lay_15 0 rfl rfl)
theorem dX3_lay_353 : decode cX3_lay 353 = .ok (.getfield 52, 3) := dk_180 0 52 (dk_at dksX3_lay_15 3 rfl rfl)
theorem dX3_lay_356 : decode cX3_lay 356 = .ok (.invokevirtual 56, 3) := dk_182 0 56 (dk_at dksX3_lay_15 6 rfl rfl)
theorem dX3_lay_359 : decode cX3_lay 359 = .ok (.if_icmp .ge 84, 3) := dk_162 0 84 (dk_at dksX3_lay_15 9 rfl rfl)
theorem dX3_lay_362 : decode cX3_lay 362 = .ok (.aload_n 0, 1) := dk_42 (dk_at dksX3_lay_15 12 rfl rfl)
theorem dX3_lay_363 : decode cX3_lay 363 = .ok (.getfield 34, 3) := dk_180 0 34 (dk_at dksX3_lay_15 13 rfl rfl)
theorem dX3_lay_366 : decode cX3_lay 366 = .ok (.getfield 52, 3) := dk_180 0 52 (dk_at dksX3_lay_15 16 rfl rfl)
theorem dX3_lay_369 : decode cX3_lay 369 = .ok (.iload 4, 2) := dk_21 4 (dk_at dksX3_lay_15 19 rfl rfl)
theorem dX3_lay_371 : decode cX3_lay 371 = .ok (.invokevirtual 123, 3) := dk_182 0 123 (dk_at dksX3_lay_15 21 rfl rfl)
theorem dX3_lay_374 : decode cX3_lay 374 = .ok (.checkcast 65, 3) := dk_192 0 65 (dk_at dksX3_lay_16 0 rfl rfl)
theorem dX3_lay_377 : decode cX3_lay 377 = .ok (.astore 5, 2) := dk_58 5 (dk_at dksX3_lay_16 3 rfl rfl)
theorem dX3_lay_379 : decode cX3_lay 379 = .ok (.aload_n 0, 1) := dk_42 (dk_at dksX3_lay_16 5 rfl rfl)
theorem dX3_lay_380 : decode cX3_lay 380 = .ok (.getfield 9, 3) := dk_180 0 9 (dk_at dksX3_lay_16 6 rfl rfl)
theorem dX3_lay_383 : decode cX3_lay 383 = .ok (.iload 4, 2) := dk_21 4 (dk_at dksX3_lay_16 9 rfl rfl)
theorem dX3_lay_385 : decode cX3_lay 385 = .ok (.iaload, 1) := dk_46 (dk_at dksX3_lay_16 11 rfl rfl)
theorem dX3_lay_386 : decode cX3_lay 386 = .ok (.ifCond .le 51, 3) := dk_158 0 51 (dk_at dksX3_lay_16 12 rfl rfl)
theorem dX3_lay_389 : decode cX3_lay 389 = .ok (.iload_n 3, 1) := dk_29 (dk_at dksX3_lay_16 15 rfl rfl)
theorem dX3_lay_390 : decode cX3_lay 390 = .ok (.aload 5, 2) := dk_25 5 (dk_at dksX3_lay_16 16 rfl rfl)
theorem dX3_lay_392 : decode cX3_lay 392 = .ok (.getfield 127, 3) := dk_180 0 127 (dk_at dksX3_lay_16 18 rfl rfl)
theorem dX3_lay_395 : decode cX3_lay 395 = .ok (.ishr, 1) := dk_122 (dk_at dksX3_lay_16 21 rfl rfl)
theorem dX3_lay_396 : decode cX3_lay 396 = .ok (.iconst 1, 1) := dk_4 (dk_at dksX3_lay_16 22 rfl rfl)
theorem dX3_lay_397 : decode cX3_lay 397 = .ok (.iand, 1) := dk_126 (dk_at dksX3_lay_16 23 rfl rfl)
theorem dX3_lay_398 : decode cX3_lay 398 = .ok (.iconst 1, 1) := dk_4 (dk_at dksX3_lay_17 0 rfl rfl)
theorem dX3_lay_399 : decode cX3_lay 399 = .ok (.if_icmp .ne 38, 3) := dk_160 0 38 (dk_at dksX3_lay_17 1 rfl rfl)
theorem dX3_lay_402 : decode cX3_lay 402 = .ok (.aload_n 0, 1) := dk_42 (dk_at dksX3_lay_17 4 rfl rfl)
theorem dX3_lay_403 : decode cX3_lay 403 = .ok (.getfield 31, 3) := dk_180 0 31 (dk_at dksX3_lay_17 5 rfl rfl)
theorem dX3_lay_406 : decode cX3_lay 406 = .ok (.iload 4, 2) := dk_21 4 (dk_at dksX3_lay_17 8 rfl rfl)
theorem dX3_lay_408 : decode cX3_lay 408 = .ok (.aload_n 0, 1) := dk_42 (dk_at dksX3_lay_17 10 rfl rfl)
theorem dX3_lay_409 : decode cX3_lay 409 = .ok (.aload 5, 2) := dk_25 5 (dk_at dksX3_lay_17 11 rfl rfl)
theorem dX3_lay_411 : decode cX3_lay 411 = .ok (.invokevirtual 133, 3) := dk_182 0 133 (dk_at dksX3_lay_17 13 rfl rfl)
theorem dX3_lay_414 : decode cX3_lay 414 = .ok (.aload_n 0, 1) := dk_42 (dk_at dksX3_lay_17 16 rfl rfl)
theorem dX3_lay_415 : decode cX3_lay 415 = .ok (.getfield 28, 3) := dk_180 0 28 (dk_at dksX3_lay_17 17 rfl rfl)
theorem dX3_lay_418 : decode cX3_lay 418 = .ok (.aload 5, 2) := dk_25 5 (dk_at dksX3_lay_17 20 rfl rfl)
theorem dX3_lay_420 : decode cX3_lay 420 = .ok (.getfield 127, 3) := dk_180 0 127 (dk_at dksX3_lay_18 0 rfl rfl)
theorem dX3_lay_423 : decode cX3_lay 423 = .ok (.laload, 1) := dk_47 (dk_at dksX3_lay_18 3 rfl rfl)
theorem dX3_lay_424 : decode cX3_lay 424 = .ok (.aload_n 0, 1) := dk_42 (dk_at dksX3_lay_18 4 rfl rfl)
theorem dX3_lay_425 : decode cX3_lay 425 = .ok (.getfield 28, 3) := dk_180 0 28 (dk_at dksX3_lay_18 5 rfl rfl)
theorem dX3_lay_428 : decode cX3_lay 428 = .ok (.aload 5, 2) := dk_25 5 (dk_at dksX3_lay_18 8 rfl rfl)
theorem dX3_lay_430 : decode cX3_lay 430 = .ok (.getfield 130, 3) := dk_180 0 130 (dk_at dksX3_lay_18 10 rfl rfl)
theorem dX3_lay_433 : decode cX3_lay 433 = .ok (.laload, 1) := dk_47 (dk_at dksX3_lay_18 13 rfl rfl)
theorem dX3_lay_434 : decode cX3_lay 434 = .ok (.lsub, 1) := dk_101 (dk_at dksX3_lay_18 14 rfl rfl)
theorem dX3_lay_435 : decode cX3_lay 435 = .ok (.lmul, 1) := dk_105 (dk_at dksX3_lay_18 15 rfl rfl)
theorem dX3_lay_436 : decode cX3_lay 436 = .ok (.lastore, 1) := dk_80 (dk_at dksX3_lay_18 16 rfl rfl)
theorem dX3_lay_437 : decode cX3_lay 437 = .ok (.iinc 4 1, 3) := dk_132 4 1 (dk_at dksX3_lay_18 17 rfl rfl)
theorem dX3_lay_440 : decode cX3_lay 440 = .ok (.goto (-93), 3) := dk_167 255 163 (dk_at dksX3_lay_18 20 rfl rfl)
theorem dX3_lay_443 : decode cX3_lay 443 = .ok (.return_, 1) := dk_177 (dk_at dksX3_lay_18 23 rfl rfl)
abbrev cX3_leads : ByteArray := prog_6_method_5_code
def yX3_leads : MethodName := ⟨RX3, "leads", "(LSlimeNet$Pipe;)J"⟩
def dkwX3_leads_2 : List UInt8 := [16, 12, 167, 0, 5, 16, 24, 133, 105, 43, 180, 0, 76, 133, 109, 173]
abbrev dktX3_leads_2 : List UInt8 := dkwX3_leads_2 ++ []
def dkwX3_leads_1 : List UInt8 := [162, 0, 7, 4, 167, 0, 4, 3, 61, 42, 180, 0, 9, 43, 180, 0, 70, 46, 133, 28, 153, 0, 8]
abbrev dktX3_leads_1 : List UInt8 := dkwX3_leads_1 ++ dktX3_leads_2
def dkwX3_leads_0 : List UInt8 := [43, 180, 0, 64, 153, 0, 26, 42, 180, 0, 15, 43, 180, 0, 70, 46, 42, 180, 0, 34, 180, 0, 73]
abbrev dktX3_leads_0 : List UInt8 := dkwX3_leads_0 ++ dktX3_leads_1
theorem dksX3_leads_0 : cX3_leads.data.toList.drop 0 = dktX3_leads_0 := by decide +kernel
theorem dksX3_leads_1 : cX3_leads.data.toList.drop 23 = dktX3_leads_1 := dk_seg dksX3_leads_0 23 rfl rfl
theorem dksX3_leads_2 : cX3_leads.data.toList.drop 46 = dktX3_leads_2 := dk_seg dksX3_leads_1 23 rfl rfl
theorem dX3_leads_0 : decode cX3_leads 0 = .ok (.aload_n 1, 1) := dk_43 (dk_at dksX3_leads_0 0 rfl rfl)
theorem dX3_leads_1 : decode cX3_leads 1 = .ok (.getfield 64, 3) := dk_180 0 64 (dk_at dksX3_leads_0 1 rfl rfl)
theorem dX3_leads_4 : decode cX3_leads 4 = .ok (.ifCond .eq 26, 3) := dk_153 0 26 (dk_at dksX3_leads_0 4 rfl rfl)
theorem dX3_leads_7 : decode cX3_leads 7 = .ok (.aload_n 0, 1) := dk_42 (dk_at dksX3_leads_0 7 rfl rfl)
theorem dX3_leads_8 : decode cX3_leads 8 = .ok (.getfield 15, 3) := dk_180 0 15 (dk_at dksX3_leads_0 8 rfl rfl)
theorem dX3_leads_11 : decode cX3_leads 11 = .ok (.aload_n 1, 1) := dk_43 (dk_at dksX3_leads_0 11 rfl rfl)
theorem dX3_leads_12 : decode cX3_leads 12 = .ok (.getfield 70, 3) := dk_180 0 70 (dk_at dksX3_leads_0 12 rfl rfl)
theorem dX3_leads_15 : decode cX3_leads 15 = .ok (.iaload, 1) := dk_46 (dk_at dksX3_leads_0 15 rfl rfl)
theorem dX3_leads_16 : decode cX3_leads 16 = .ok (.aload_n 0, 1) := dk_42 (dk_at dksX3_leads_0 16 rfl rfl)
theorem dX3_leads_17 : decode cX3_leads 17 = .ok (.getfield 34, 3) := dk_180 0 34 (dk_at dksX3_leads_0 17 rfl rfl)
theorem dX3_leads_20 : decode cX3_leads 20 = .ok (.getfield 73, 3) := dk_180 0 73 (dk_at dksX3_leads_0 20 rfl rfl)
theorem dX3_leads_23 : decode cX3_leads 23 = .ok (.if_icmp .ge 7, 3) := dk_162 0 7 (dk_at dksX3_leads_1 0 rfl rfl)
theorem dX3_leads_26 : decode cX3_leads 26 = .ok (.iconst 1, 1) := dk_4 (dk_at dksX3_leads_1 3 rfl rfl)
theorem dX3_leads_27 : decode cX3_leads 27 = .ok (.goto 4, 3) := dk_167 0 4 (dk_at dksX3_leads_1 4 rfl rfl)
theorem dX3_leads_30 : decode cX3_leads 30 = .ok (.iconst 0, 1) := dk_3 (dk_at dksX3_leads_1 7 rfl rfl)
theorem dX3_leads_31 : decode cX3_leads 31 = .ok (.istore_n 2, 1) := dk_61 (dk_at dksX3_leads_1 8 rfl rfl)
theorem dX3_leads_32 : decode cX3_leads 32 = .ok (.aload_n 0, 1) := dk_42 (dk_at dksX3_leads_1 9 rfl rfl)
theorem dX3_leads_33 : decode cX3_leads 33 = .ok (.getfield 9, 3) := dk_180 0 9 (dk_at dksX3_leads_1 10 rfl rfl)
theorem dX3_leads_36 : decode cX3_leads 36 = .ok (.aload_n 1, 1) := dk_43 (dk_at dksX3_leads_1 13 rfl rfl)
theorem dX3_leads_37 : decode cX3_leads 37 = .ok (.getfield 70, 3) := dk_180 0 70 (dk_at dksX3_leads_1 14 rfl rfl)
theorem dX3_leads_40 : decode cX3_leads 40 = .ok (.iaload, 1) := dk_46 (dk_at dksX3_leads_1 17 rfl rfl)
theorem dX3_leads_41 : decode cX3_leads 41 = .ok (.i2l, 1) := dk_133 (dk_at dksX3_leads_1 18 rfl rfl)
theorem dX3_leads_42 : decode cX3_leads 42 = .ok (.iload_n 2, 1) := dk_28 (dk_at dksX3_leads_1 19 rfl rfl)
theorem dX3_leads_43 : decode cX3_leads 43 = .ok (.ifCond .eq 8, 3) := dk_153 0 8 (dk_at dksX3_leads_1 20 rfl rfl)
theorem dX3_leads_46 : decode cX3_leads 46 = .ok (.bipush 12, 2) := dk_16 12 (dk_at dksX3_leads_2 0 rfl rfl)
theorem dX3_leads_48 : decode cX3_leads 48 = .ok (.goto 5, 3) := dk_167 0 5 (dk_at dksX3_leads_2 2 rfl rfl)
theorem dX3_leads_51 : decode cX3_leads 51 = .ok (.bipush 24, 2) := dk_16 24 (dk_at dksX3_leads_2 5 rfl rfl)
theorem dX3_leads_53 : decode cX3_leads 53 = .ok (.i2l, 1) := dk_133 (dk_at dksX3_leads_2 7 rfl rfl)
theorem dX3_leads_54 : decode cX3_leads 54 = .ok (.lmul, 1) := dk_105 (dk_at dksX3_leads_2 8 rfl rfl)
theorem dX3_leads_55 : decode cX3_leads 55 = .ok (.aload_n 1, 1) := dk_43 (dk_at dksX3_leads_2 9 rfl rfl)
theorem dX3_leads_56 : decode cX3_leads 56 = .ok (.getfield 76, 3) := dk_180 0 76 (dk_at dksX3_leads_2 10 rfl rfl)
theorem dX3_leads_59 : decode cX3_leads 59 = .ok (.i2l, 1) := dk_133 (dk_at dksX3_leads_2 13 rfl rfl)
theorem dX3_leads_60 : decode cX3_leads 60 = .ok (.ldiv, 1) := dk_109 (dk_at dksX3_leads_2 14 rfl rfl)
theorem dX3_leads_61 : decode cX3_leads 61 = .ok (.lreturn, 1) := dk_173 (dk_at dksX3_leads_2 15 rfl rfl)
abbrev cX3_minor : ByteArray := prog_6_method_6_code
def yX3_minor : MethodName := ⟨RX3, "minor", "(II)J"⟩
def dkwX3_minor_4 : List UInt8 := [54, 5, 132, 6, 1, 167, 255, 175, 33, 173]
abbrev dktX3_minor_4 : List UInt8 := dkwX3_minor_4 ++ []
def dkwX3_minor_3 : List UInt8 := [47, 105, 42, 27, 4, 96, 28, 4, 21, 6, 120, 2, 130, 126, 182, 0, 82, 105, 97, 66, 21, 5, 116]
abbrev dktX3_minor_3 : List UInt8 := dkwX3_minor_3 ++ dktX3_minor_4
def dkwX3_minor_2 : List UInt8 := [21, 6, 96, 47, 9, 148, 153, 0, 38, 33, 21, 5, 133, 42, 180, 0, 21, 16, 6, 27, 104, 21, 6, 96]
abbrev dktX3_minor_2 : List UInt8 := dkwX3_minor_2 ++ dktX3_minor_3
def dkwX3_minor_1 : List UInt8 := [162, 0, 78, 28, 21, 6, 122, 4, 126, 154, 0, 6, 167, 0, 60, 42, 180, 0, 21, 16, 6, 27, 104]
abbrev dktX3_minor_1 : List UInt8 := dkwX3_minor_1 ++ dktX3_minor_2
def dkwX3_minor_0 : List UInt8 := [27, 42, 180, 0, 79, 160, 0, 5, 10, 173, 9, 66, 4, 54, 5, 3, 54, 6, 21, 6, 42, 180, 0, 79]
abbrev dktX3_minor_0 : List UInt8 := dkwX3_minor_0 ++ dktX3_minor_1
theorem dksX3_minor_0 : cX3_minor.data.toList.drop 0 = dktX3_minor_0 := by decide +kernel
theorem dksX3_minor_1 : cX3_minor.data.toList.drop 24 = dktX3_minor_1 := dk_seg dksX3_minor_0 24 rfl rfl
theorem dksX3_minor_2 : cX3_minor.data.toList.drop 47 = dktX3_minor_2 := dk_seg dksX3_minor_1 23 rfl rfl
theorem dksX3_minor_3 : cX3_minor.data.toList.drop 71 = dktX3_minor_3 := dk_seg dksX3_minor_2 24 rfl rfl
theorem dksX3_minor_4 : cX3_minor.data.toList.drop 94 = dktX3_minor_4 := dk_seg dksX3_minor_3 23 rfl rfl
theorem dX3_minor_0 : decode cX3_minor 0 = .ok (.iload_n 1, 1) := dk_27 (dk_at dksX3_minor_0 0 rfl rfl)
theorem dX3_minor_1 : decode cX3_minor 1 = .ok (.aload_n 0, 1) := dk_42 (dk_at dksX3_minor_0 1 rfl rfl)
theorem dX3_minor_2 : decode cX3_minor 2 = .ok (.getfield 79, 3) := dk_180 0 79 (dk_at dksX3_minor_0 2 rfl rfl)
theorem dX3_minor_5 : decode cX3_minor 5 = .ok (.if_icmp .ne 5, 3) := dk_160 0 5 (dk_at dksX3_minor_0 5 rfl rfl)
theorem dX3_minor_8 : decode cX3_minor 8 = .ok (.lconst 1, 1) := dk_10 (dk_at dksX3_minor_0 8 rfl rfl)
theorem dX3_minor_9 : decode cX3_minor 9 = .ok (.lreturn, 1) := dk_173 (dk_at dksX3_minor_0 9 rfl rfl)
theorem dX3_minor_10 : decode cX3_minor 10 = .ok (.lconst 0, 1) := dk_9 (dk_at dksX3_minor_0 10 rfl rfl)
theorem dX3_minor_11 : decode cX3_minor 11 = .ok (.lstore_n 3, 1) := dk_66 (dk_at dksX3_minor_0 11 rfl rfl)
theorem dX3_minor_12 : decode cX3_minor 12 = .ok (.iconst 1, 1) := dk_4 (dk_at dksX3_minor_0 12 rfl rfl)
theorem dX3_minor_13 : decode cX3_minor 13 = .ok (.istore 5, 2) := dk_54 5 (dk_at dksX3_minor_0 13 rfl rfl)
theorem dX3_minor_15 : decode cX3_minor 15 = .ok (.iconst 0, 1) := dk_3 (dk_at dksX3_minor_0 15 rfl rfl)
theorem dX3_minor_16 : decode cX3_minor 16 = .ok (.istore 6, 2) := dk_54 6 (dk_at dksX3_minor_0 16 rfl rfl)
theorem dX3_minor_18 : decode cX3_minor 18 = .ok (.iload 6, 2) := dk_21 6 (dk_at dksX3_minor_0 18 rfl rfl)
theorem dX3_minor_20 : decode cX3_minor 20 = .ok (.aload_n 0, 1) := dk_42 (dk_at dksX3_minor_0 20 rfl rfl)
theorem dX3_minor_21 : decode cX3_minor 21 = .ok (.getfield 79, 3) := dk_180 0 79 (dk_at dksX3_minor_0 21 rfl rfl)
theorem dX3_minor_24 : decode cX3_minor 24 = .ok (.if_icmp .ge 78, 3) := dk_162 0 78 (dk_at dksX3_minor_1 0 rfl rfl)
theorem dX3_minor_27 : decode cX3_minor 27 = .ok (.iload_n 2, 1) := dk_28 (dk_at dksX3_minor_1 3 rfl rfl)
theorem dX3_minor_28 : decode cX3_minor 28 = .ok (.iload 6, 2) := dk_21 6 (dk_at dksX3_minor_1 4 rfl rfl)
theorem dX3_minor_30 : decode cX3_minor 30 = .ok (.ishr, 1) := dk_122 (dk_at dksX3_minor_1 6 rfl rfl)
theorem dX3_minor_31 : decode cX3_minor 31 = .ok (.iconst 1, 1) := dk_4 (dk_at dksX3_minor_1 7 rfl rfl)
theorem dX3_minor_32 : decode cX3_minor 32 = .ok (.iand, 1) := dk_126 (dk_at dksX3_minor_1 8 rfl rfl)
theorem dX3_minor_33 : decode cX3_minor 33 = .ok (.ifCond .ne 6, 3) := dk_154 0 6 (dk_at dksX3_minor_1 9 rfl rfl)
theorem dX3_minor_36 : decode cX3_minor 36 = .ok (.goto 60, 3) := dk_167 0 60 (dk_at dksX3_minor_1 12 rfl rfl)
theorem dX3_minor_39 : decode cX3_minor 39 = .ok (.aload_n 0, 1) := dk_42 (dk_at dksX3_minor_1 15 rfl rfl)
theorem dX3_minor_40 : decode cX3_minor 40 = .ok (.getfield 21, 3) := dk_180 0 21 (dk_at dksX3_minor_1 16 rfl rfl)
theorem dX3_minor_43 : decode cX3_minor 43 = .ok (.bipush 6, 2) := dk_16 6 (dk_at dksX3_minor_1 19 rfl rfl)
theorem dX3_minor_45 : decode cX3_minor 45 = .ok (.iload_n 1, 1) := dk_27 (dk_at dksX3_minor_1 21 rfl rfl)
theorem dX3_minor_46 : decode cX3_minor 46 = .ok (.imul, 1) := dk_104 (dk_at dksX3_minor_1 22 rfl rfl)
theorem dX3_minor_47 : decode cX3_minor 47 = .ok (.iload 6, 2) := dk_21 6 (dk_at dksX3_minor_2 0 rfl rfl)
theorem dX3_minor_49 : decode cX3_minor 49 = .ok (.iadd, 1) := dk_96 (dk_at dksX3_minor_2 2 rfl rfl)
theorem dX3_minor_50 : decode cX3_minor 50 = .ok (.laload, 1) := dk_47 (dk_at dksX3_minor_2 3 rfl rfl)
theorem dX3_minor_51 : decode cX3_minor 51 = .ok (.lconst 0, 1) := dk_9 (dk_at dksX3_minor_2 4 rfl rfl)
theorem dX3_minor_52 : decode cX3_minor 52 = .ok (.lcmp, 1) := dk_148 (dk_at dksX3_minor_2 5 rfl rfl)
theorem dX3_minor_53 : decode cX3_minor 53 = .ok (.ifCond .eq 38, 3) := dk_153 0 38 (dk_at dksX3_minor_2 6 rfl rfl)
theorem dX3_minor_56 : decode cX3_minor 56 = .ok (.lload_n 3, 1) := dk_33 (dk_at dksX3_minor_2 9 rfl rfl)
theorem dX3_minor_57 : decode cX3_minor 57 = .ok (.iload 5, 2) := dk_21 5 (dk_at dksX3_minor_2 10 rfl rfl)
theorem dX3_minor_59 : decode cX3_minor 59 = .ok (.i2l, 1) := dk_133 (dk_at dksX3_minor_2 12 rfl rfl)
theorem dX3_minor_60 : decode cX3_minor 60 = .ok (.aload_n 0, 1) := dk_42 (dk_at dksX3_minor_2 13 rfl rfl)
theorem dX3_minor_61 : decode cX3_minor 61 = .ok (.getfield 21, 3) := dk_180 0 21 (dk_at dksX3_minor_2 14 rfl rfl)
theorem dX3_minor_64 : decode cX3_minor 64 = .ok (.bipush 6, 2) := dk_16 6 (dk_at dksX3_minor_2 17 rfl rfl)
theorem dX3_minor_66 : decode cX3_minor 66 = .ok (.iload_n 1, 1) := dk_27 (dk_at dksX3_minor_2 19 rfl rfl)
theorem dX3_minor_67 : decode cX3_minor 67 = .ok (.imul, 1) := dk_104 (dk_at dksX3_minor_2 20 rfl rfl)
theorem dX3_minor_68 : decode cX3_minor 68 = .ok (.iload 6, 2) := dk_21 6 (dk_at dksX3_minor_2 21 rfl rfl)
theorem dX3_minor_70 : decode cX3_minor 70 = .ok (.iadd, 1) := dk_96 (dk_at dksX3_minor_2 23 rfl rfl)
theorem dX3_minor_71 : decode cX3_minor 71 = .ok (.laload, 1) := dk_47 (dk_at dksX3_minor_3 0 rfl rfl)
theorem dX3_minor_72 : decode cX3_minor 72 = .ok (.lmul, 1) := dk_105 (dk_at dksX3_minor_3 1 rfl rfl)
theorem dX3_minor_73 : decode cX3_minor 73 = .ok (.aload_n 0, 1) := dk_42 (dk_at dksX3_minor_3 2 rfl rfl)
theorem dX3_minor_74 : decode cX3_minor 74 = .ok (.iload_n 1, 1) := dk_27 (dk_at dksX3_minor_3 3 rfl rfl)
theorem dX3_minor_75 : decode cX3_minor 75 = .ok (.iconst 1, 1) := dk_4 (dk_at dksX3_minor_3 4 rfl rfl)
theorem dX3_minor_76 : decode cX3_minor 76 = .ok (.iadd, 1) := dk_96 (dk_at dksX3_minor_3 5 rfl rfl)
theorem dX3_minor_77 : decode cX3_minor 77 = .ok (.iload_n 2, 1) := dk_28 (dk_at dksX3_minor_3 6 rfl rfl)
theorem dX3_minor_78 : decode cX3_minor 78 = .ok (.iconst 1, 1) := dk_4 (dk_at dksX3_minor_3 7 rfl rfl)
theorem dX3_minor_79 : decode cX3_minor 79 = .ok (.iload 6, 2) := dk_21 6 (dk_at dksX3_minor_3 8 rfl rfl)
theorem dX3_minor_81 : decode cX3_minor 81 = .ok (.ishl, 1) := dk_120 (dk_at dksX3_minor_3 10 rfl rfl)
theorem dX3_minor_82 : decode cX3_minor 82 = .ok (.iconst (-1), 1) := dk_2 (dk_at dksX3_minor_3 11 rfl rfl)
theorem dX3_minor_83 : decode cX3_minor 83 = .ok (.ixor, 1) := dk_130 (dk_at dksX3_minor_3 12 rfl rfl)
theorem dX3_minor_84 : decode cX3_minor 84 = .ok (.iand, 1) := dk_126 (dk_at dksX3_minor_3 13 rfl rfl)
theorem dX3_minor_85 : decode cX3_minor 85 = .ok (.invokevirtual 82, 3) := dk_182 0 82 (dk_at dksX3_minor_3 14 rfl rfl)
theorem dX3_minor_88 : decode cX3_minor 88 = .ok (.lmul, 1) := dk_105 (dk_at dksX3_minor_3 17 rfl rfl)
theorem dX3_minor_89 : decode cX3_minor 89 = .ok (.ladd, 1) := dk_97 (dk_at dksX3_minor_3 18 rfl rfl)
theorem dX3_minor_90 : decode cX3_minor 90 = .ok (.lstore_n 3, 1) := dk_66 (dk_at dksX3_minor_3 19 rfl rfl)
theorem dX3_minor_91 : decode cX3_minor 91 = .ok (.iload 5, 2) := dk_21 5 (dk_at dksX3_minor_3 20 rfl rfl)
theorem dX3_minor_93 : decode cX3_minor 93 = .ok (.ineg, 1) := dk_116 (dk_at dksX3_minor_3 22 rfl rfl)
theorem dX3_minor_94 : decode cX3_minor 94 = .ok (.istore 5, 2) := dk_54 5 (dk_at dksX3_minor_4 0 rfl rfl)
theorem dX3_minor_96 : decode cX3_minor 96 = .ok (.iinc 6 1, 3) := dk_132 6 1 (dk_at dksX3_minor_4 2 rfl rfl)
theorem dX3_minor_99 : decode cX3_minor 99 = .ok (.goto (-81), 3) := dk_167 255 175 (dk_at dksX3_minor_4 5 rfl rfl)
theorem dX3_minor_102 : decode cX3_minor 102 = .ok (.lload_n 3, 1) := dk_33 (dk_at dksX3_minor_4 8 rfl rfl)
theorem dX3_minor_103 : decode cX3_minor 103 = .ok (.lreturn, 1) := dk_173 (dk_at dksX3_minor_4 9 rfl rfl)
abbrev cX3_inPlace : ByteArray := prog_6_method_7_code
def yX3_inPlace : MethodName := ⟨RX3, "inPlace", "(I)J"⟩
def dkwX3_inPlace_2 : List UInt8 := [42, 21, 4, 27, 182, 0, 86, 132, 4, 1, 167, 255, 237, 32, 173]
abbrev dktX3_inPlace_2 : List UInt8 := dkwX3_inPlace_2 ++ []
def dkwX3_inPlace_1 : List UInt8 := [4, 42, 180, 0, 79, 120, 4, 100, 182, 0, 82, 65, 3, 54, 4, 21, 4, 42, 180, 0, 79, 162, 0, 16]
abbrev dktX3_inPlace_1 : List UInt8 := dkwX3_inPlace_1 ++ dktX3_inPlace_2
def dkwX3_inPlace_0 : List UInt8 := [3, 61, 28, 42, 180, 0, 79, 162, 0, 15, 42, 28, 27, 182, 0, 86, 132, 2, 1, 167, 255, 239, 42, 3]
abbrev dktX3_inPlace_0 : List UInt8 := dkwX3_inPlace_0 ++ dktX3_inPlace_1
theorem dksX3_inPlace_0 : cX3_inPlace.data.toList.drop 0 = dktX3_inPlace_0 := by decide +kernel
theorem dksX3_inPlace_1 : cX3_inPlace.data.toList.drop 24 = dktX3_inPlace_1 := dk_seg dksX3_inPlace_0 24 rfl rfl
theorem dksX3_inPlace_2 : cX3_inPlace.data.toList.drop 48 = dktX3_inPlace_2 := dk_seg dksX3_inPlace_1 24 rfl rfl
theorem dX3_inPlace_0 : decode cX3_inPlace 0 = .ok (.iconst 0, 1) := dk_3 (dk_at dksX3_inPlace_0 0 rfl rfl)
theorem dX3_inPlace_1 : decode cX3_inPlace 1 = .ok (.istore_n 2, 1) := dk_61 (dk_at dksX3_inPlace_0 1 rfl rfl)
theorem dX3_inPlace_2 : decode cX3_inPlace 2 = .ok (.iload_n 2, 1) := dk_28 (dk_at dksX3_inPlace_0 2 rfl rfl)
theorem dX3_inPlace_3 : decode cX3_inPlace 3 = .ok (.aload_n 0, 1) := dk_42 (dk_at dksX3_inPlace_0 3 rfl rfl)
theorem dX3_inPlace_4 : decode cX3_inPlace 4 = .ok (.getfield 79, 3) := dk_180 0 79 (dk_at dksX3_inPlace_0 4 rfl rfl)
theorem dX3_inPlace_7 : decode cX3_inPlace 7 = .ok (.if_icmp .ge 15, 3) := dk_162 0 15 (dk_at dksX3_inPlace_0 7 rfl rfl)
theorem dX3_inPlace_10 : decode cX3_inPlace 10 = .ok (.aload_n 0, 1) := dk_42 (dk_at dksX3_inPlace_0 10 rfl rfl)
theorem dX3_inPlace_11 : decode cX3_inPlace 11 = .ok (.iload_n 2, 1) := dk_28 (dk_at dksX3_inPlace_0 11 rfl rfl)
theorem dX3_inPlace_12 : decode cX3_inPlace 12 = .ok (.iload_n 1, 1) := dk_27 (dk_at dksX3_inPlace_0 12 rfl rfl)
theorem dX3_inPlace_13 : decode cX3_inPlace 13 = .ok (.invokevirtual 86, 3) := dk_182 0 86 (dk_at dksX3_inPlace_0 13 rfl rfl)
theorem dX3_inPlace_16 : decode cX3_inPlace 16 = .ok (.iinc 2 1, 3) := dk_132 2 1 (dk_at dksX3_inPlace_0 16 rfl rfl)
theorem dX3_inPlace_19 : decode cX3_inPlace 19 = .ok (.goto (-17), 3) := dk_167 255 239 (dk_at dksX3_inPlace_0 19 rfl rfl)
theorem dX3_inPlace_22 : decode cX3_inPlace 22 = .ok (.aload_n 0, 1) := dk_42 (dk_at dksX3_inPlace_0 22 rfl rfl)
theorem dX3_inPlace_23 : decode cX3_inPlace 23 = .ok (.iconst 0, 1) := dk_3 (dk_at dksX3_inPlace_0 23 rfl rfl)
theorem dX3_inPlace_24 : decode cX3_inPlace 24 = .ok (.iconst 1, 1) := dk_4 (dk_at dksX3_inPlace_1 0 rfl rfl)
theorem dX3_inPlace_25 : decode cX3_inPlace 25 = .ok (.aload_n 0, 1) := dk_42 (dk_at dksX3_inPlace_1 1 rfl rfl)
theorem dX3_inPlace_26 : decode cX3_inPlace 26 = .ok (.getfield 79, 3) := dk_180 0 79 (dk_at dksX3_inPlace_1 2 rfl rfl)
theorem dX3_inPlace_29 : decode cX3_inPlace 29 = .ok (.ishl, 1) := dk_120 (dk_at dksX3_inPlace_1 5 rfl rfl)
theorem dX3_inPlace_30 : decode cX3_inPlace 30 = .ok (.iconst 1, 1) := dk_4 (dk_at dksX3_inPlace_1 6 rfl rfl)
theorem dX3_inPlace_31 : decode cX3_inPlace 31 = .ok (.isub, 1) := dk_100 (dk_at dksX3_inPlace_1 7 rfl rfl)
theorem dX3_inPlace_32 : decode cX3_inPlace 32 = .ok (.invokevirtual 82, 3) := dk_182 0 82 (dk_at dksX3_inPlace_1 8 rfl rfl)
theorem dX3_inPlace_35 : decode cX3_inPlace 35 = .ok (.lstore_n 2, 1) := dk_65 (dk_at dksX3_inPlace_1 11 rfl rfl)
theorem dX3_inPlace_36 : decode cX3_inPlace 36 = .ok (.iconst 0, 1) := dk_3 (dk_at dksX3_inPlace_1 12 rfl rfl)
theorem dX3_inPlace_37 : decode cX3_inPlace 37 = .ok (.istore 4, 2) := dk_54 4 (dk_at dksX3_inPlace_1 13 rfl rfl)
theorem dX3_inPlace_39 : decode cX3_inPlace 39 = .ok (.iload 4, 2) := dk_21 4 (dk_at dksX3_inPlace_1 15 rfl rfl)
theorem dX3_inPlace_41 : decode cX3_inPlace 41 = .ok (.aload_n 0, 1) := dk_42 (dk_at dksX3_inPlace_1 17 rfl rfl)
theorem dX3_inPlace_42 : decode cX3_inPlace 42 = .ok (.getfield 79, 3) := dk_180 0 79 (dk_at dksX3_inPlace_1 18 rfl rfl)
theorem dX3_inPlace_45 : decode cX3_inPlace 45 = .ok (.if_icmp .ge 16, 3) := dk_162 0 16 (dk_at dksX3_inPlace_1 21 rfl rfl)
theorem dX3_inPlace_48 : decode cX3_inPlace 48 = .ok (.aload_n 0, 1) := dk_42 (dk_at dksX3_inPlace_2 0 rfl rfl)
theorem dX3_inPlace_49 : decode cX3_inPlace 49 = .ok (.iload 4, 2) := dk_21 4 (dk_at dksX3_inPlace_2 1 rfl rfl)
theorem dX3_inPlace_51 : decode cX3_inPlace 51 = .ok (.iload_n 1, 1) := dk_27 (dk_at dksX3_inPlace_2 3 rfl rfl)
theorem dX3_inPlace_52 : decode cX3_inPlace 52 = .ok (.invokevirtual 86, 3) := dk_182 0 86 (dk_at dksX3_inPlace_2 4 rfl rfl)
theorem dX3_inPlace_55 : decode cX3_inPlace 55 = .ok (.iinc 4 1, 3) := dk_132 4 1 (dk_at dksX3_inPlace_2 7 rfl rfl)
theorem dX3_inPlace_58 : decode cX3_inPlace 58 = .ok (.goto (-19), 3) := dk_167 255 237 (dk_at dksX3_inPlace_2 10 rfl rfl)
theorem dX3_inPlace_61 : decode cX3_inPlace 61 = .ok (.lload_n 2, 1) := dk_32 (dk_at dksX3_inPlace_2 13 rfl rfl)
theorem dX3_inPlace_62 : decode cX3_inPlace 62 = .ok (.lreturn, 1) := dk_173 (dk_at dksX3_inPlace_2 14 rfl rfl)
abbrev cX3_swap : ByteArray := prog_6_method_8_code
def yX3_swap : MethodName := ⟨RX3, "swap", "(II)V"⟩
def dkwX3_swap_1 : List UInt8 := [180, 0, 25, 27, 47, 80, 42, 180, 0, 25, 27, 33, 80, 177]
abbrev dktX3_swap_1 : List UInt8 := dkwX3_swap_1 ++ []
def dkwX3_swap_0 : List UInt8 := [42, 180, 0, 21, 16, 6, 27, 104, 28, 96, 47, 66, 42, 180, 0, 21, 16, 6, 27, 104, 28, 96, 42]
abbrev dktX3_swap_0 : List UInt8 := dkwX3_swap_0 ++ dktX3_swap_1
theorem dksX3_swap_0 : cX3_swap.data.toList.drop 0 = dktX3_swap_0 := by decide +kernel
theorem dksX3_swap_1 : cX3_swap.data.toList.drop 23 = dktX3_swap_1 := dk_seg dksX3_swap_0 23 rfl rfl
theorem dX3_swap_0 : decode cX3_swap 0 = .ok (.aload_n 0, 1) := dk_42 (dk_at dksX3_swap_0 0 rfl rfl)
theorem dX3_swap_1 : decode cX3_swap 1 = .ok (.getfield 21, 3) := dk_180 0 21 (dk_at dksX3_swap_0 1 rfl rfl)
theorem dX3_swap_4 : decode cX3_swap 4 = .ok (.bipush 6, 2) := dk_16 6 (dk_at dksX3_swap_0 4 rfl rfl)
theorem dX3_swap_6 : decode cX3_swap 6 = .ok (.iload_n 1, 1) := dk_27 (dk_at dksX3_swap_0 6 rfl rfl)
theorem dX3_swap_7 : decode cX3_swap 7 = .ok (.imul, 1) := dk_104 (dk_at dksX3_swap_0 7 rfl rfl)
theorem dX3_swap_8 : decode cX3_swap 8 = .ok (.iload_n 2, 1) := dk_28 (dk_at dksX3_swap_0 8 rfl rfl)
theorem dX3_swap_9 : decode cX3_swap 9 = .ok (.iadd, 1) := dk_96 (dk_at dksX3_swap_0 9 rfl rfl)
theorem dX3_swap_10 : decode cX3_swap 10 = .ok (.laload, 1) := dk_47 (dk_at dksX3_swap_0 10 rfl rfl)
theorem dX3_swap_11 : decode cX3_swap 11 = .ok (.lstore_n 3, 1) := dk_66 (dk_at dksX3_swap_0 11 rfl rfl)
theorem dX3_swap_12 : decode cX3_swap 12 = .ok (.aload_n 0, 1) := dk_42 (dk_at dksX3_swap_0 12 rfl rfl)
theorem dX3_swap_13 : decode cX3_swap 13 = .ok (.getfield 21, 3) := dk_180 0 21 (dk_at dksX3_swap_0 13 rfl rfl)
theorem dX3_swap_16 : decode cX3_swap 16 = .ok (.bipush 6, 2) := dk_16 6 (dk_at dksX3_swap_0 16 rfl rfl)
theorem dX3_swap_18 : decode cX3_swap 18 = .ok (.iload_n 1, 1) := dk_27 (dk_at dksX3_swap_0 18 rfl rfl)
theorem dX3_swap_19 : decode cX3_swap 19 = .ok (.imul, 1) := dk_104 (dk_at dksX3_swap_0 19 rfl rfl)
theorem dX3_swap_20 : decode cX3_swap 20 = .ok (.iload_n 2, 1) := dk_28 (dk_at dksX3_swap_0 20 rfl rfl)
theorem dX3_swap_21 : decode cX3_swap 21 = .ok (.iadd, 1) := dk_96 (dk_at dksX3_swap_0 21 rfl rfl)
theorem dX3_swap_22 : decode cX3_swap 22 = .ok (.aload_n 0, 1) := dk_42 (dk_at dksX3_swap_0 22 rfl rfl)
theorem dX3_swap_23 : decode cX3_swap 23 = .ok (.getfield 25, 3) := dk_180 0 25 (dk_at dksX3_swap_1 0 rfl rfl)
theorem dX3_swap_26 : decode cX3_swap 26 = .ok (.iload_n 1, 1) := dk_27 (dk_at dksX3_swap_1 3 rfl rfl)
theorem dX3_swap_27 : decode cX3_swap 27 = .ok (.laload, 1) := dk_47 (dk_at dksX3_swap_1 4 rfl rfl)
theorem dX3_swap_28 : decode cX3_swap 28 = .ok (.lastore, 1) := dk_80 (dk_at dksX3_swap_1 5 rfl rfl)
theorem dX3_swap_29 : decode cX3_swap 29 = .ok (.aload_n 0, 1) := dk_42 (dk_at dksX3_swap_1 6 rfl rfl)
theorem dX3_swap_30 : decode cX3_swap 30 = .ok (.getfield 25, 3) := dk_180 0 25 (dk_at dksX3_swap_1 7 rfl rfl)
theorem dX3_swap_33 : decode cX3_swap 33 = .ok (.iload_n 1, 1) := dk_27 (dk_at dksX3_swap_1 10 rfl rfl)
theorem dX3_swap_34 : decode cX3_swap 34 = .ok (.lload_n 3, 1) := dk_33 (dk_at dksX3_swap_1 11 rfl rfl)
theorem dX3_swap_35 : decode cX3_swap 35 = .ok (.lastore, 1) := dk_80 (dk_at dksX3_swap_1 12 rfl rfl)
theorem dX3_swap_36 : decode cX3_swap 36 = .ok (.return_, 1) := dk_177 (dk_at dksX3_swap_1 13 rfl rfl)
abbrev cX3_live : ByteArray := prog_6_method_11_code
def yX3_live : MethodName := ⟨RX3, "live", "()V"⟩
def dkwX3_live_8 : List UInt8 := [180, 0, 49, 4, 96, 181, 0, 49, 177]
abbrev dktX3_live_8 : List UInt8 := dkwX3_live_8 ++ []
def dkwX3_live_7 : List UInt8 := [167, 0, 15, 3, 42, 180, 0, 15, 27, 46, 4, 100, 184, 0, 154, 79, 132, 1, 1, 167, 255, 79, 42, 89]
abbrev dktX3_live_7 : List UInt8 := dkwX3_live_7 ++ dktX3_live_8
def dkwX3_live_6 : List UInt8 := [155, 0, 25, 32, 9, 148, 158, 0, 19, 16, 9, 42, 180, 0, 15, 27, 46, 4, 96, 184, 0, 151]
abbrev dktX3_live_6 : List UInt8 := dkwX3_live_6 ++ dktX3_live_7
def dkwX3_live_5 : List UInt8 := [180, 0, 64, 153, 0, 58, 42, 180, 0, 15, 27, 32, 42, 180, 0, 48, 133, 42, 180, 0, 96, 105, 148]
abbrev dktX3_live_5 : List UInt8 := dkwX3_live_5 ++ dktX3_live_6
def dkwX3_live_4 : List UInt8 := [180, 0, 9, 27, 92, 46, 4, 100, 79, 42, 180, 0, 34, 180, 0, 52, 27, 182, 0, 123, 192, 0, 65]
abbrev dktX3_live_4 : List UInt8 := dkwX3_live_4 ++ dktX3_live_5
def dkwX3_live_3 : List UInt8 := [96, 184, 0, 151, 79, 167, 0, 28, 32, 42, 180, 0, 48, 133, 42, 180, 0, 96, 105, 148, 156, 0, 13, 42]
abbrev dktX3_live_3 : List UInt8 := dkwX3_live_3 ++ dktX3_live_4
def dkwX3_live_2 : List UInt8 := [133, 42, 180, 0, 96, 105, 148, 155, 0, 25, 42, 180, 0, 9, 27, 16, 9, 42, 180, 0, 9, 27, 46, 4]
abbrev dktX3_live_2 : List UInt8 := dkwX3_live_2 ++ dktX3_live_3
def dkwX3_live_1 : List UInt8 := [180, 0, 31, 27, 47, 184, 0, 145, 105, 65, 42, 180, 0, 9, 27, 46, 158, 0, 65, 32, 42, 180, 0, 44]
abbrev dktX3_live_1 : List UInt8 := dkwX3_live_1 ++ dktX3_live_2
def dkwX3_live_0 : List UInt8 := [42, 182, 0, 141, 3, 60, 27, 42, 180, 0, 34, 180, 0, 52, 182, 0, 56, 162, 0, 169, 20, 0, 143, 42]
abbrev dktX3_live_0 : List UInt8 := dkwX3_live_0 ++ dktX3_live_1
theorem dksX3_live_0 : cX3_live.data.toList.drop 0 = dktX3_live_0 := by decide +kernel
theorem dksX3_live_1 : cX3_live.data.toList.drop 24 = dktX3_live_1 := dk_seg dksX3_live_0 24 rfl rfl
theorem dksX3_live_2 : cX3_live.data.toList.drop 48 = dktX3_live_2 := dk_seg dksX3_live_1 24 rfl rfl
theorem dksX3_live_3 : cX3_live.data.toList.drop 72 = dktX3_live_3 := dk_seg dksX3_live_2 24 rfl rfl
theorem dksX3_live_4 : cX3_live.data.toList.drop 96 = dktX3_live_4 := dk_seg dksX3_live_3 24 rfl rfl
theorem dksX3_live_5 : cX3_live.data.toList.drop 119 = dktX3_live_5 := dk_seg dksX3_live_4 23 rfl rfl
theorem dksX3_live_6 : cX3_live.data.toList.drop 142 = dktX3_live_6 := dk_seg dksX3_live_5 23 rfl rfl
theorem dksX3_live_7 : cX3_live.data.toList.drop 164 = dktX3_live_7 := dk_seg dksX3_live_6 22 rfl rfl
theorem dksX3_live_8 : cX3_live.data.toList.drop 188 = dktX3_live_8 := dk_seg dksX3_live_7 24 rfl rfl
theorem dX3_live_0 : decode cX3_live 0 = .ok (.aload_n 0, 1) := dk_42 (dk_at dksX3_live_0 0 rfl rfl)
theorem dX3_live_1 : decode cX3_live 1 = .ok (.invokevirtual 141, 3) := dk_182 0 141 (dk_at dksX3_live_0 1 rfl rfl)
theorem dX3_live_4 : decode cX3_live 4 = .ok (.iconst 0, 1) := dk_3 (dk_at dksX3_live_0 4 rfl rfl)
theorem dX3_live_5 : decode cX3_live 5 = .ok (.istore_n 1, 1) := dk_60 (dk_at dksX3_live_0 5 rfl rfl)
theorem dX3_live_6 : decode cX3_live 6 = .ok (.iload_n 1, 1) := dk_27 (dk_at dksX3_live_0 6 rfl rfl)
theorem dX3_live_7 : decode cX3_live 7 = .ok (.aload_n 0, 1) := dk_42 (dk_at dksX3_live_0 7 rfl rfl)
theorem dX3_live_8 : decode cX3_live 8 = .ok (.getfield 34, 3) := dk_180 0 34 (dk_at dksX3_live_0 8 rfl rfl)
theorem dX3_live_11 : decode cX3_live 11 = .ok (.getfield 52, 3) := dk_180 0 52 (dk_at dksX3_live_0 11 rfl rfl)
theorem dX3_live_14 : decode cX3_live 14 = .ok (.invokevirtual 56, 3) := dk_182 0 56 (dk_at dksX3_live_0 14 rfl rfl)
theorem dX3_live_17 : decode cX3_live 17 = .ok (.if_icmp .ge 169, 3) := dk_162 0 169 (dk_at dksX3_live_0 17 rfl rfl)
theorem dX3_live_20 : decode cX3_live 20 = .ok (.ldc2_w 143, 3) := dk_20 0 143 (dk_at dksX3_live_0 20 rfl rfl)
theorem dX3_live_23 : decode cX3_live 23 = .ok (.aload_n 0, 1) := dk_42 (dk_at dksX3_live_0 23 rfl rfl)
theorem dX3_live_24 : decode cX3_live 24 = .ok (.getfield 31, 3) := dk_180 0 31 (dk_at dksX3_live_1 0 rfl rfl)
theorem dX3_live_27 : decode cX3_live 27 = .ok (.iload_n 1, 1) := dk_27 (dk_at dksX3_live_1 3 rfl rfl)
theorem dX3_live_28 : decode cX3_live 28 = .ok (.laload, 1) := dk_47 (dk_at dksX3_live_1 4 rfl rfl)
theorem dX3_live_29 : decode cX3_live 29 = .ok (.invokestatic 145, 3) := dk_184 0 145 (dk_at dksX3_live_1 5 rfl rfl)
theorem dX3_live_32 : decode cX3_live 32 = .ok (.lmul, 1) := dk_105 (dk_at dksX3_live_1 8 rfl rfl)
theorem dX3_live_33 : decode cX3_live 33 = .ok (.lstore_n 2, 1) := dk_65 (dk_at dksX3_live_1 9 rfl rfl)
theorem dX3_live_34 : decode cX3_live 34 = .ok (.aload_n 0, 1) := dk_42 (dk_at dksX3_live_1 10 rfl rfl)
theorem dX3_live_35 : decode cX3_live 35 = .ok (.getfield 9, 3) := dk_180 0 9 (dk_at dksX3_live_1 11 rfl rfl)
theorem dX3_live_38 : decode cX3_live 38 = .ok (.iload_n 1, 1) := dk_27 (dk_at dksX3_live_1 14 rfl rfl)
theorem dX3_live_39 : decode cX3_live 39 = .ok (.iaload, 1) := dk_46 (dk_at dksX3_live_1 15 rfl rfl)
theorem dX3_live_40 : decode cX3_live 40 = .ok (.ifCond .le 65, 3) := dk_158 0 65 (dk_at dksX3_live_1 16 rfl rfl)
theorem dX3_live_43 : decode cX3_live 43 = .ok (.lload_n 2, 1) := dk_32 (dk_at dksX3_live_1 19 rfl rfl)
theorem dX3_live_44 : decode cX3_live 44 = .ok (.aload_n 0, 1) := dk_42 (dk_at dksX3_live_1 20 rfl rfl)
theorem dX3_live_45 : decode cX3_live 45 = .ok (.getfield 44, 3) := dk_180 0 44 (dk_at dksX3_live_1 21 rfl rfl)
theorem dX3_live_48 : decode cX3_live 48 = .ok (.i2l, 1) := dk_133 (dk_at dksX3_live_2 0 rfl rfl)
theorem dX3_live_49 : decode cX3_live 49 = .ok (.aload_n 0, 1) := dk_42 (dk_at dksX3_live_2 1 rfl rfl)
theorem dX3_live_50 : decode cX3_live 50 = .ok (.getfield 96, 3) := dk_180 0 96 (dk_at dksX3_live_2 2 rfl rfl)
theorem dX3_live_53 : decode cX3_live 53 = .ok (.lmul, 1) := dk_105 (dk_at dksX3_live_2 5 rfl rfl)
theorem dX3_live_54 : decode cX3_live 54 = .ok (.lcmp, 1) := dk_148 (dk_at dksX3_live_2 6 rfl rfl)
theorem dX3_live_55 : decode cX3_live 55 = .ok (.ifCond .lt 25, 3) := dk_155 0 25 (dk_at dksX3_live_2 7 rfl rfl)
theorem dX3_live_58 : decode cX3_live 58 = .ok (.aload_n 0, 1) := dk_42 (dk_at dksX3_live_2 10 rfl rfl)
theorem dX3_live_59 : decode cX3_live 59 = .ok (.getfield 9, 3) := dk_180 0 9 (dk_at dksX3_live_2 11 rfl rfl)
theorem dX3_live_62 : decode cX3_live 62 = .ok (.iload_n 1, 1) := dk_27 (dk_at dksX3_live_2 14 rfl rfl)
theorem dX3_live_63 : decode cX3_live 63 = .ok (.bipush 9, 2) := dk_16 9 (dk_at dksX3_live_2 15 rfl rfl)
theorem dX3_live_65 : decode cX3_live 65 = .ok (.aload_n 0, 1) := dk_42 (dk_at dksX3_live_2 17 rfl rfl)
theorem dX3_live_66 : decode cX3_live 66 = .ok (.getfield 9, 3) := dk_180 0 9 (dk_at dksX3_live_2 18 rfl rfl)
theorem dX3_live_69 : decode cX3_live 69 = .ok (.iload_n 1, 1) := dk_27 (dk_at dksX3_live_2 21 rfl rfl)
theorem dX3_live_70 : decode cX3_live 70 = .ok (.iaload, 1) := dk_46 (dk_at dksX3_live_2 22 rfl rfl)
theorem dX3_live_71 : decode cX3_live 71 = .ok (.iconst 1, 1) := dk_4 (dk_at dksX3_live_2 23 rfl rfl)
theorem dX3_live_72 : decode cX3_live 72 = .ok (.iadd, 1) := dk_96 (dk_at dksX3_live_3 0 rfl rfl)
theorem dX3_live_73 : decode cX3_live 73 = .ok (.invokestatic 151, 3) := dk_184 0 151 (dk_at dksX3_live_3 1 rfl rfl)
theorem dX3_live_76 : decode cX3_live 76 = .ok (.iastore, 1) := dk_79 (dk_at dksX3_live_3 4 rfl rfl)
theorem dX3_live_77 : decode cX3_live 77 = .ok (.goto 28, 3) := dk_167 0 28 (dk_at dksX3_live_3 5 rfl rfl)
theorem dX3_live_80 : decode cX3_live 80 = .ok (.lload_n 2, 1) := dk_32 (dk_at dksX3_live_3 8 rfl rfl)
theorem dX3_live_81 : decode cX3_live 81 = .ok (.aload_n 0, 1) := dk_42 (dk_at dksX3_live_3 9 rfl rfl)
theorem dX3_live_82 : decode cX3_live 82 = .ok (.getfield 48, 3) := dk_180 0 48 (dk_at dksX3_live_3 10 rfl rfl)
theorem dX3_live_85 : decode cX3_live 85 = .ok (.i2l, 1) := dk_133 (dk_at dksX3_live_3 13 rfl rfl)
theorem dX3_live_86 : decode cX3_live 86 = .ok (.aload_n 0, 1) := dk_42 (dk_at dksX3_live_3 14 rfl rfl)
theorem dX3_live_87 : decode cX3_live 87 = .ok (.getfield 96, 3) := dk_180 0 96 (dk_at dksX3_live_3 15 rfl rfl)
theorem dX3_live_90 : decode cX3_live 90 = .ok (.lmul, 1) := dk_105 (dk_at dksX3_live_3 18 rfl rfl)
theorem dX3_live_91 : decode cX3_live 91 = .ok (.lcmp, 1) := dk_148 (dk_at dksX3_live_3 19 rfl rfl)
theorem dX3_live_92 : decode cX3_live 92 = .ok (.ifCond .ge 13, 3) := dk_156 0 13 (dk_at dksX3_live_3 20 rfl rfl)
theorem dX3_live_95 : decode cX3_live 95 = .ok (.aload_n 0, 1) := dk_42 (dk_at dksX3_live_3 23 rfl rfl)
theorem dX3_live_96 : decode cX3_live 96 = .ok (.getfield 9, 3) := dk_180 0 9 (dk_at dksX3_live_4 0 rfl rfl)
theorem dX3_live_99 : decode cX3_live 99 = .ok (.iload_n 1, 1) := dk_27 (dk_at dksX3_live_4 3 rfl rfl)
theorem dX3_live_100 : decode cX3_live 100 = .ok (.dup2, 1) := dk_92 (dk_at dksX3_live_4 4 rfl rfl)
theorem dX3_live_101 : decode cX3_live 101 = .ok (.iaload, 1) := dk_46 (dk_at dksX3_live_4 5 rfl rfl)
theorem dX3_live_102 : decode cX3_live 102 = .ok (.iconst 1, 1) := dk_4 (dk_at dksX3_live_4 6 rfl rfl)
theorem dX3_live_103 : decode cX3_live 103 = .ok (.isub, 1) := dk_100 (dk_at dksX3_live_4 7 rfl rfl)
theorem dX3_live_104 : decode cX3_live 104 = .ok (.iastore, 1) := dk_79 (dk_at dksX3_live_4 8 rfl rfl)
theorem dX3_live_105 : decode cX3_live 105 = .ok (.aload_n 0, 1) := dk_42 (dk_at dksX3_live_4 9 rfl rfl)
theorem dX3_live_106 : decode cX3_live 106 = .ok (.getfield 34, 3) := dk_180 0 34 (dk_at dksX3_live_4 10 rfl rfl)
theorem dX3_live_109 : decode cX3_live 109 = .ok (.getfield 52, 3) := dk_180 0 52 (dk_at dksX3_live_4 13 rfl rfl)
theorem dX3_live_112 : decode cX3_live 112 = .ok (.iload_n 1, 1) := dk_27 (dk_at dksX3_live_4 16 rfl rfl)
theorem dX3_live_113 : decode cX3_live 113 = .ok (.invokevirtual 123, 3) := dk_182 0 123 (dk_at dksX3_live_4 17 rfl rfl)
theorem dX3_live_116 : decode cX3_live 116 = .ok (.checkcast 65, 3) := dk_192 0 65 (dk_at dksX3_live_4 20 rfl rfl)
theorem dX3_live_119 : decode cX3_live 119 = .ok (.getfield 64, 3) := dk_180 0 64 (dk_at dksX3_live_5 0 rfl rfl)
theorem dX3_live_122 : decode cX3_live 122 = .ok (.ifCond .eq 58, 3) := dk_153 0 58 (dk_at dksX3_live_5 3 rfl rfl)
theorem dX3_live_125 : decode cX3_live 125 = .ok (.aload_n 0, 1) := dk_42 (dk_at dksX3_live_5 6 rfl rfl)
theorem dX3_live_126 : decode cX3_live 126 = .ok (.getfield 15, 3) := dk_180 0 15 (dk_at dksX3_live_5 7 rfl rfl)
theorem dX3_live_129 : decode cX3_live 129 = .ok (.iload_n 1, 1) := dk_27 (dk_at dksX3_live_5 10 rfl rfl)
theorem dX3_live_130 : decode cX3_live 130 = .ok (.lload_n 2, 1) := dk_32 (dk_at dksX3_live_5 11 rfl rfl)
theorem dX3_live_131 : decode cX3_live 131 = .ok (.aload_n 0, 1) := dk_42 (dk_at dksX3_live_5 12 rfl rfl)
theorem dX3_live_132 : decode cX3_live 132 = .ok (.getfield 48, 3) := dk_180 0 48 (dk_at dksX3_live_5 13 rfl rfl)
theorem dX3_live_135 : decode cX3_live 135 = .ok (.i2l, 1) := dk_133 (dk_at dksX3_live_5 16 rfl rfl)
theorem dX3_live_136 : decode cX3_live 136 = .ok (.aload_n 0, 1) := dk_42 (dk_at dksX3_live_5 17 rfl rfl)
theorem dX3_live_137 : decode cX3_live 137 = .ok (.getfield 96, 3) := dk_180 0 96 (dk_at dksX3_live_5 18 rfl rfl)
theorem dX3_live_140 : decode cX3_live 140 = .ok (.lmul, 1) := dk_105 (dk_at dksX3_live_5 21 rfl rfl)
theorem dX3_live_141 : decode cX3_live 141 = .ok (.lcmp, 1) := dk_148 (dk_at dksX3_live_5 22 rfl rfl)
theorem dX3_live_142 : decode cX3_live 142 = .ok (.ifCond .lt 25, 3) := dk_155 0 25 (dk_at dksX3_live_6 0 rfl rfl)
theorem dX3_live_145 : decode cX3_live 145 = .ok (.lload_n 2, 1) := dk_32 (dk_at dksX3_live_6 3 rfl rfl)
theorem dX3_live_146 : decode cX3_live 146 = .ok (.lconst 0, 1) := dk_9 (dk_at dksX3_live_6 4 rfl rfl)
theorem dX3_live_147 : decode cX3_live 147 = .ok (.lcmp, 1) := dk_148 (dk_at dksX3_live_6 5 rfl rfl)
theorem dX3_live_148 : decode cX3_live 148 = .ok (.ifCond .le 19, 3) := dk_158 0 19 (dk_at dksX3_live_6 6 rfl rfl)
theorem dX3_live_151 : decode cX3_live 151 = .ok (.bipush 9, 2) := dk_16 9 (dk_at dksX3_live_6 9 rfl rfl)
theorem dX3_live_153 : decode cX3_live 153 = .ok (.aload_n 0, 1) := dk_42 (dk_at dksX3_live_6 11 rfl rfl)
theorem dX3_live_154 : decode cX3_live 154 = .ok (.getfield 15, 3) := dk_180 0 15 (dk_at dksX3_live_6 12 rfl rfl)
theorem dX3_live_157 : decode cX3_live 157 = .ok (.iload_n 1, 1) := dk_27 (dk_at dksX3_live_6 15 rfl rfl)
theorem dX3_live_158 : decode cX3_live 158 = .ok (.iaload, 1) := dk_46 (dk_at dksX3_live_6 16 rfl rfl)
theorem dX3_live_159 : decode cX3_live 159 = .ok (.iconst 1, 1) := dk_4 (dk_at dksX3_live_6 17 rfl rfl)
theorem dX3_live_160 : decode cX3_live 160 = .ok (.iadd, 1) := dk_96 (dk_at dksX3_live_6 18 rfl rfl)
theorem dX3_live_161 : decode cX3_live 161 = .ok (.invokestatic 151, 3) := dk_184 0 151 (dk_at dksX3_live_6 19 rfl rfl)
theorem dX3_live_164 : decode cX3_live 164 = .ok (.goto 15, 3) := dk_167 0 15 (dk_at dksX3_live_7 0 rfl rfl)
theorem dX3_live_167 : decode cX3_live 167 = .ok (.iconst 0, 1) := dk_3 (dk_at dksX3_live_7 3 rfl rfl)
theorem dX3_live_168 : decode cX3_live 168 = .ok (.aload_n 0, 1) := dk_42 (dk_at dksX3_live_7 4 rfl rfl)
theorem dX3_live_169 : decode cX3_live 169 = .ok (.getfield 15, 3) := dk_180 0 15 (dk_at dksX3_live_7 5 rfl rfl)
theorem dX3_live_172 : decode cX3_live 172 = .ok (.iload_n 1, 1) := dk_27 (dk_at dksX3_live_7 8 rfl rfl)
theorem dX3_live_173 : decode cX3_live 173 = .ok (.iaload, 1) := dk_46 (dk_at dksX3_live_7 9 rfl rfl)
theorem dX3_live_174 : decode cX3_live 174 = .ok (.iconst 1, 1) := dk_4 (dk_at dksX3_live_7 10 rfl rfl)
theorem dX3_live_175 : decode cX3_live 175 = .ok (.isub, 1) := dk_100 (dk_at dksX3_live_7 11 rfl rfl)
theorem dX3_live_176 : decode cX3_live 176 = .ok (.invokestatic 154, 3) := dk_184 0 154 (dk_at dksX3_live_7 12 rfl rfl)
theorem dX3_live_179 : decode cX3_live 179 = .ok (.iastore, 1) := dk_79 (dk_at dksX3_live_7 15 rfl rfl)
theorem dX3_live_180 : decode cX3_live 180 = .ok (.iinc 1 1, 3) := dk_132 1 1 (dk_at dksX3_live_7 16 rfl rfl)
theorem dX3_live_183 : decode cX3_live 183 = .ok (.goto (-177), 3) := dk_167 255 79 (dk_at dksX3_live_7 19 rfl rfl)
theorem dX3_live_186 : decode cX3_live 186 = .ok (.aload_n 0, 1) := dk_42 (dk_at dksX3_live_7 22 rfl rfl)
theorem dX3_live_187 : decode cX3_live 187 = .ok (.dup, 1) := dk_89 (dk_at dksX3_live_7 23 rfl rfl)
theorem dX3_live_188 : decode cX3_live 188 = .ok (.getfield 49, 3) := dk_180 0 49 (dk_at dksX3_live_8 0 rfl rfl)
theorem dX3_live_191 : decode cX3_live 191 = .ok (.iconst 1, 1) := dk_4 (dk_at dksX3_live_8 3 rfl rfl)
theorem dX3_live_192 : decode cX3_live 192 = .ok (.iadd, 1) := dk_96 (dk_at dksX3_live_8 4 rfl rfl)
theorem dX3_live_193 : decode cX3_live 193 = .ok (.putfield 49, 3) := dk_181 0 49 (dk_at dksX3_live_8 5 rfl rfl)
theorem dX3_live_196 : decode cX3_live 196 = .ok (.return_, 1) := dk_177 (dk_at dksX3_live_8 8 rfl rfl)
abbrev cX3_liveRound : ByteArray := prog_6_method_12_code
def yX3_liveRound : MethodName := ⟨RX3, "liveRound", "()V"⟩
def dkwX3_liveRound_1 : List UInt8 := [167, 255, 245, 177]
abbrev dktX3_liveRound_1 : List UInt8 := dkwX3_liveRound_1 ++ []
def dkwX3_liveRound_0 : List UInt8 := [4, 42, 180, 0, 34, 182, 0, 100, 184, 0, 154, 60, 27, 158, 0, 13, 42, 182, 0, 157, 132, 1, 255]
abbrev dktX3_liveRound_0 : List UInt8 := dkwX3_liveRound_0 ++ dktX3_liveRound_1
theorem dksX3_liveRound_0 : cX3_liveRound.data.toList.drop 0 = dktX3_liveRound_0 := by decide +kernel
theorem dksX3_liveRound_1 : cX3_liveRound.data.toList.drop 23 = dktX3_liveRound_1 := dk_seg dksX3_liveRound_0 23 rfl rfl
theorem dX3_liveRound_0 : decode cX3_liveRound 0 = .ok (.iconst 1, 1) := dk_4 (dk_at dksX3_liveRound_0 0 rfl rfl)
theorem dX3_liveRound_1 : decode cX3_liveRound 1 = .ok (.aload_n 0, 1) := dk_42 (dk_at dksX3_liveRound_0 1 rfl rfl)
theorem dX3_liveRound_2 : decode cX3_liveRound 2 = .ok (.getfield 34, 3) := dk_180 0 34 (dk_at dksX3_liveRound_0 2 rfl rfl)
theorem dX3_liveRound_5 : decode cX3_liveRound 5 = .ok (.invokevirtual 100, 3) := dk_182 0 100 (dk_at dksX3_liveRound_0 5 rfl rfl)
theorem dX3_liveRound_8 : decode cX3_liveRound 8 = .ok (.invokestatic 154, 3) := dk_184 0 154 (dk_at dksX3_liveRound_0 8 rfl rfl)
theorem dX3_liveRound_11 : decode cX3_liveRound 11 = .ok (.istore_n 1, 1) := dk_60 (dk_at dksX3_liveRound_0 11 rfl rfl)
theorem dX3_liveRound_12 : decode cX3_liveRound 12 = .ok (.iload_n 1, 1) := dk_27 (dk_at dksX3_liveRound_0 12 rfl rfl)
theorem dX3_liveRound_13 : decode cX3_liveRound 13 = .ok (.ifCond .le 13, 3) := dk_158 0 13 (dk_at dksX3_liveRound_0 13 rfl rfl)
theorem dX3_liveRound_16 : decode cX3_liveRound 16 = .ok (.aload_n 0, 1) := dk_42 (dk_at dksX3_liveRound_0 16 rfl rfl)
theorem dX3_liveRound_17 : decode cX3_liveRound 17 = .ok (.invokevirtual 157, 3) := dk_182 0 157 (dk_at dksX3_liveRound_0 17 rfl rfl)
theorem dX3_liveRound_20 : decode cX3_liveRound 20 = .ok (.iinc 1 (-1), 3) := dk_132 1 255 (dk_at dksX3_liveRound_0 20 rfl rfl)
theorem dX3_liveRound_23 : decode cX3_liveRound 23 = .ok (.goto (-11), 3) := dk_167 255 245 (dk_at dksX3_liveRound_1 0 rfl rfl)
theorem dX3_liveRound_26 : decode cX3_liveRound 26 = .ok (.return_, 1) := dk_177 (dk_at dksX3_liveRound_1 3 rfl rfl)
abbrev cX3_become : ByteArray := prog_6_method_3_code
def yX3_become : MethodName := ⟨RX3, "become", "(LSlimeNet$Slime;)V"⟩
def dkwX3_become_2 : List UInt8 := [177]
abbrev dktX3_become_2 : List UInt8 := dkwX3_become_2 ++ []
def dkwX3_become_1 : List UInt8 := [180, 0, 9, 28, 46, 79, 42, 180, 0, 15, 28, 43, 180, 0, 15, 28, 46, 79, 132, 2, 1, 167, 255, 223]
abbrev dktX3_become_1 : List UInt8 := dkwX3_become_1 ++ dktX3_become_2
def dkwX3_become_0 : List UInt8 := [42, 43, 180, 0, 49, 181, 0, 49, 3, 61, 28, 16, 10, 162, 0, 33, 42, 180, 0, 9, 28, 43]
abbrev dktX3_become_0 : List UInt8 := dkwX3_become_0 ++ dktX3_become_1
theorem dksX3_become_0 : cX3_become.data.toList.drop 0 = dktX3_become_0 := by decide +kernel
theorem dksX3_become_1 : cX3_become.data.toList.drop 22 = dktX3_become_1 := dk_seg dksX3_become_0 22 rfl rfl
theorem dksX3_become_2 : cX3_become.data.toList.drop 46 = dktX3_become_2 := dk_seg dksX3_become_1 24 rfl rfl
theorem dX3_become_0 : decode cX3_become 0 = .ok (.aload_n 0, 1) := dk_42 (dk_at dksX3_become_0 0 rfl rfl)
theorem dX3_become_1 : decode cX3_become 1 = .ok (.aload_n 1, 1) := dk_43 (dk_at dksX3_become_0 1 rfl rfl)
theorem dX3_become_2 : decode cX3_become 2 = .ok (.getfield 49, 3) := dk_180 0 49 (dk_at dksX3_become_0 2 rfl rfl)
theorem dX3_become_5 : decode cX3_become 5 = .ok (.putfield 49, 3) := dk_181 0 49 (dk_at dksX3_become_0 5 rfl rfl)
theorem dX3_become_8 : decode cX3_become 8 = .ok (.iconst 0, 1) := dk_3 (dk_at dksX3_become_0 8 rfl rfl)
theorem dX3_become_9 : decode cX3_become 9 = .ok (.istore_n 2, 1) := dk_61 (dk_at dksX3_become_0 9 rfl rfl)
theorem dX3_become_10 : decode cX3_become 10 = .ok (.iload_n 2, 1) := dk_28 (dk_at dksX3_become_0 10 rfl rfl)
theorem dX3_become_11 : decode cX3_become 11 = .ok (.bipush 10, 2) := dk_16 10 (dk_at dksX3_become_0 11 rfl rfl)
theorem dX3_become_13 : decode cX3_become 13 = .ok (.if_icmp .ge 33, 3) := dk_162 0 33 (dk_at dksX3_become_0 13 rfl rfl)
theorem dX3_become_16 : decode cX3_become 16 = .ok (.aload_n 0, 1) := dk_42 (dk_at dksX3_become_0 16 rfl rfl)
theorem dX3_become_17 : decode cX3_become 17 = .ok (.getfield 9, 3) := dk_180 0 9 (dk_at dksX3_become_0 17 rfl rfl)
theorem dX3_become_20 : decode cX3_become 20 = .ok (.iload_n 2, 1) := dk_28 (dk_at dksX3_become_0 20 rfl rfl)
theorem dX3_become_21 : decode cX3_become 21 = .ok (.aload_n 1, 1) := dk_43 (dk_at dksX3_become_0 21 rfl rfl)
theorem dX3_become_22 : decode cX3_become 22 = .ok (.getfield 9, 3) := dk_180 0 9 (dk_at dksX3_become_1 0 rfl rfl)
theorem dX3_become_25 : decode cX3_become 25 = .ok (.iload_n 2, 1) := dk_28 (dk_at dksX3_become_1 3 rfl rfl)
theorem dX3_become_26 : decode cX3_become 26 = .ok (.iaload, 1) := dk_46 (dk_at dksX3_become_1 4 rfl rfl)
theorem dX3_become_27 : decode cX3_become 27 = .ok (.iastore, 1) := dk_79 (dk_at dksX3_become_1 5 rfl rfl)
theorem dX3_become_28 : decode cX3_become 28 = .ok (.aload_n 0, 1) := dk_42 (dk_at dksX3_become_1 6 rfl rfl)
theorem dX3_become_29 : decode cX3_become 29 = .ok (.getfield 15, 3) := dk_180 0 15 (dk_at dksX3_become_1 7 rfl rfl)
theorem dX3_become_32 : decode cX3_become 32 = .ok (.iload_n 2, 1) := dk_28 (dk_at dksX3_become_1 10 rfl rfl)
theorem dX3_become_33 : decode cX3_become 33 = .ok (.aload_n 1, 1) := dk_43 (dk_at dksX3_become_1 11 rfl rfl)
theorem dX3_become_34 : decode cX3_become 34 = .ok (.getfield 15, 3) := dk_180 0 15 (dk_at dksX3_become_1 12 rfl rfl)
theorem dX3_become_37 : decode cX3_become 37 = .ok (.iload_n 2, 1) := dk_28 (dk_at dksX3_become_1 15 rfl rfl)
theorem dX3_become_38 : decode cX3_become 38 = .ok (.iaload, 1) := dk_46 (dk_at dksX3_become_1 16 rfl rfl)
theorem dX3_become_39 : decode cX3_become 39 = .ok (.iastore, 1) := dk_79 (dk_at dksX3_become_1 17 rfl rfl)
theorem dX3_become_40 : decode cX3_become 40 = .ok (.iinc 2 1, 3) := dk_132 2 1 (dk_at dksX3_become_1 18 rfl rfl)
theorem dX3_become_43 : decode cX3_become 43 = .ok (.goto (-33), 3) := dk_167 255 223 (dk_at dksX3_become_1 21 rfl rfl)
theorem dX3_become_46 : decode cX3_become 46 = .ok (.return_, 1) := dk_177 (dk_at dksX3_become_2 0 rfl rfl)
theorem q78 : (Jvm.Cond.initialized "SlimeNet$Slime") ∈ lw_all := lw_g (lw_at lw_m1 9 rfl) rfl
theorem q205 : (Jvm.Cond.fieldLinkNest "SlimeNet$Slime" (52 : Nat) "SlimeNet$Plate" "pipes" "Ljava/util/ArrayList;" "SlimeNet") ∈ lw_tbl := lw_at lw_m1 136 rfl
theorem q210 : (Jvm.Cond.fieldLinkNest "SlimeNet$Slime" (106 : Nat) "SlimeNet$Plate" "flakes" "[I" "SlimeNet") ∈ lw_tbl := lw_at lw_m1 141 rfl
theorem q216 : (Jvm.Cond.fieldLinkNest "SlimeNet$Slime" (120 : Nat) "SlimeNet$Plate" "spotMany" "I" "SlimeNet") ∈ lw_tbl := lw_at lw_m1 147 rfl
theorem q219 : (Jvm.Cond.fieldLinkNest "SlimeNet$Slime" (103 : Nat) "SlimeNet$Plate" "flakeMany" "I" "SlimeNet") ∈ lw_tbl := lw_at lw_m1 150 rfl
theorem q222 : (Jvm.Cond.fieldLinkNest "SlimeNet$Slime" (38 : Nat) "SlimeNet$Plate" "up" "I" "SlimeNet") ∈ lw_tbl := lw_at lw_m1 153 rfl
theorem q225 : (Jvm.Cond.fieldLinkNest "SlimeNet$Slime" (45 : Nat) "SlimeNet$Plate" "down" "I" "SlimeNet") ∈ lw_tbl := lw_at lw_m1 156 rfl
theorem q228 : (Jvm.Cond.fieldLinkNest "SlimeNet$Slime" (62 : Nat) "SlimeNet$Plate" "width" "I" "SlimeNet") ∈ lw_tbl := lw_at lw_m1 159 rfl
theorem q232 : (Jvm.Cond.fieldLinkNest "SlimeNet$Slime" (73 : Nat) "SlimeNet$Plate" "learn" "I" "SlimeNet") ∈ lw_tbl := lw_at lw_m1 163 rfl
theorem q261 : (Jvm.Cond.instantiable "SlimeNet$Slime" (13 : Nat)) ∈ lw_all := lw_g (lw_at lw_m1 192 rfl) rfl
theorem q263 : (Jvm.Cond.instanceMethod ({ cls := "SlimeNet$Slime", name := "<init>", desc := "()V" } : Jvm.MethodName)) ∈ lw_all := lw_g (lw_at lw_m1 194 rfl) rfl
theorem q264 : (Jvm.Cond.code ({ cls := "SlimeNet$Slime", name := "<init>", desc := "()V" } : Jvm.MethodName) prog_6_method_1_code (1 : Nat) (Option.none : Option Jvm.ClassFile.FieldType)) ∈ lw_all := lw_g (lw_at lw_m1 195 rfl) rfl
theorem q265 : (Jvm.Cond.methodLink "SlimeNet$Slime" (3 : Nat) ({ cls := "java/lang/Object", name := "<init>", desc := "()V" } : Jvm.MethodName)) ∈ lw_all := lw_g (lw_at lw_m1 196 rfl) rfl
theorem q266 : (Jvm.Cond.fieldLink "SlimeNet$Slime" (34 : Nat) "SlimeNet$Slime" "plate" "LSlimeNet$Plate;") ∈ lw_all := lw_g (lw_at lw_m1 197 rfl) rfl
theorem q267 : (Jvm.Cond.fieldLink "SlimeNet$Slime" (9 : Nat) "SlimeNet$Slime" "width" "[I") ∈ lw_all := lw_g (lw_at lw_m1 198 rfl) rfl
theorem q269 : (Jvm.Cond.fieldLink "SlimeNet$Slime" (15 : Nat) "SlimeNet$Slime" "count" "[I") ∈ lw_all := lw_g (lw_at lw_m1 200 rfl) rfl
theorem q271 : (Jvm.Cond.fieldLink "SlimeNet$Slime" (49 : Nat) "SlimeNet$Slime" "hour" "I") ∈ lw_all := lw_g (lw_at lw_m1 202 rfl) rfl
theorem q273 : (Jvm.Cond.fieldLink "SlimeNet$Slime" (44 : Nat) "SlimeNet$Slime" "up" "I") ∈ lw_all := lw_g (lw_at lw_m1 204 rfl) rfl
theorem q275 : (Jvm.Cond.fieldLink "SlimeNet$Slime" (48 : Nat) "SlimeNet$Slime" "down" "I") ∈ lw_all := lw_g (lw_at lw_m1 206 rfl) rfl
theorem q277 : (Jvm.Cond.fieldLink "SlimeNet$Slime" (18 : Nat) "SlimeNet$Slime" "rowOf" "[I") ∈ lw_all := lw_g (lw_at lw_m1 208 rfl) rfl
theorem q278 : (Jvm.Cond.fieldLink "SlimeNet$Slime" (21 : Nat) "SlimeNet$Slime" "matrix" "[J") ∈ lw_all := lw_g (lw_at lw_m1 209 rfl) rfl
theorem q279 : (Jvm.Cond.fieldLink "SlimeNet$Slime" (25 : Nat) "SlimeNet$Slime" "right" "[J") ∈ lw_all := lw_g (lw_at lw_m1 210 rfl) rfl
theorem q280 : (Jvm.Cond.fieldLink "SlimeNet$Slime" (28 : Nat) "SlimeNet$Slime" "height" "[J") ∈ lw_all := lw_g (lw_at lw_m1 211 rfl) rfl
theorem q281 : (Jvm.Cond.fieldLink "SlimeNet$Slime" (31 : Nat) "SlimeNet$Slime" "flow" "[J") ∈ lw_all := lw_g (lw_at lw_m1 212 rfl) rfl
theorem q283 : (Jvm.Cond.fieldLink "SlimeNet$Slime" (96 : Nat) "SlimeNet$Slime" "under" "J") ∈ lw_all := lw_g (lw_at lw_m1 214 rfl) rfl
theorem q285 : (Jvm.Cond.fieldLink "SlimeNet$Slime" (79 : Nat) "SlimeNet$Slime" "rows" "I") ∈ lw_all := lw_g (lw_at lw_m1 216 rfl) rfl
theorem q286 : (Jvm.Cond.lays "SlimeNet$Slime" "SlimeNet$Slime" "plate" "LSlimeNet$Plate;") ∈ lw_all := lw_g (lw_at lw_m1 217 rfl) rfl
theorem q287 : (Jvm.Cond.soleField "SlimeNet$Slime" "plate") ∈ lw_all := lw_g (lw_at lw_m1 218 rfl) rfl
theorem q288 : (Jvm.Cond.laysFinal "SlimeNet$Slime" "SlimeNet$Slime" "width" "[I") ∈ lw_all := lw_g (lw_at lw_m1 219 rfl) rfl
theorem q289 : (Jvm.Cond.soleField "SlimeNet$Slime" "width") ∈ lw_all := lw_g (lw_at lw_m1 220 rfl) rfl
theorem q290 : (Jvm.Cond.laysFinal "SlimeNet$Slime" "SlimeNet$Slime" "count" "[I") ∈ lw_all := lw_g (lw_at lw_m1 221 rfl) rfl
theorem q291 : (Jvm.Cond.soleField "SlimeNet$Slime" "count") ∈ lw_all := lw_g (lw_at lw_m1 222 rfl) rfl
theorem q292 : (Jvm.Cond.lays "SlimeNet$Slime" "SlimeNet$Slime" "hour" "I") ∈ lw_all := lw_g (lw_at lw_m1 223 rfl) rfl
theorem q293 : (Jvm.Cond.soleField "SlimeNet$Slime" "hour") ∈ lw_all := lw_g (lw_at lw_m1 224 rfl) rfl
theorem q294 : (Jvm.Cond.lays "SlimeNet$Slime" "SlimeNet$Slime" "up" "I") ∈ lw_all := lw_g (lw_at lw_m1 225 rfl) rfl
theorem q295 : (Jvm.Cond.soleField "SlimeNet$Slime" "up") ∈ lw_all := lw_g (lw_at lw_m1 226 rfl) rfl
theorem q296 : (Jvm.Cond.lays "SlimeNet$Slime" "SlimeNet$Slime" "down" "I") ∈ lw_all := lw_g (lw_at lw_m1 227 rfl) rfl
theorem q297 : (Jvm.Cond.soleField "SlimeNet$Slime" "down") ∈ lw_all := lw_g (lw_at lw_m1 228 rfl) rfl
theorem q298 : (Jvm.Cond.laysFinal "SlimeNet$Slime" "SlimeNet$Slime" "rowOf" "[I") ∈ lw_all := lw_g (lw_at lw_m1 229 rfl) rfl
theorem q299 : (Jvm.Cond.soleField "SlimeNet$Slime" "rowOf") ∈ lw_all := lw_g (lw_at lw_m1 230 rfl) rfl
theorem q300 : (Jvm.Cond.laysFinal "SlimeNet$Slime" "SlimeNet$Slime" "matrix" "[J") ∈ lw_all := lw_g (lw_at lw_m1 231 rfl) rfl
theorem q301 : (Jvm.Cond.soleField "SlimeNet$Slime" "matrix") ∈ lw_all := lw_g (lw_at lw_m1 232 rfl) rfl
theorem q302 : (Jvm.Cond.laysFinal "SlimeNet$Slime" "SlimeNet$Slime" "right" "[J") ∈ lw_all := lw_g (lw_at lw_m1 233 rfl) rfl
theorem q303 : (Jvm.Cond.soleField "SlimeNet$Slime" "right") ∈ lw_all := lw_g (lw_at lw_m1 234 rfl) rfl
theorem q304 : (Jvm.Cond.laysFinal "SlimeNet$Slime" "SlimeNet$Slime" "height" "[J") ∈ lw_all := lw_g (lw_at lw_m1 235 rfl) rfl
theorem q305 : (Jvm.Cond.soleField "SlimeNet$Slime" "height") ∈ lw_all := lw_g (lw_at lw_m1 236 rfl) rfl
theorem q306 : (Jvm.Cond.laysFinal "SlimeNet$Slime" "SlimeNet$Slime" "flow" "[J") ∈ lw_all := lw_g (lw_at lw_m1 237 rfl) rfl
theorem q307 : (Jvm.Cond.soleField "SlimeNet$Slime" "flow") ∈ lw_all := lw_g (lw_at lw_m1 238 rfl) rfl
theorem q308 : (Jvm.Cond.lays "SlimeNet$Slime" "SlimeNet$Slime" "under" "J") ∈ lw_all := lw_g (lw_at lw_m1 239 rfl) rfl
theorem q309 : (Jvm.Cond.soleField "SlimeNet$Slime" "under") ∈ lw_all := lw_g (lw_at lw_m2 0 rfl) rfl
theorem q310 : (Jvm.Cond.lays "SlimeNet$Slime" "SlimeNet$Slime" "rows" "I") ∈ lw_all := lw_g (lw_at lw_m2 1 rfl) rfl
theorem q311 : (Jvm.Cond.soleField "SlimeNet$Slime" "rows") ∈ lw_all := lw_g (lw_at lw_m2 2 rfl) rfl
theorem q312 : (Jvm.Cond.superclass "SlimeNet$Slime" "java/lang/Object") ∈ lw_all := lw_g (lw_at lw_m2 3 rfl) rfl
theorem q315 : (Jvm.Cond.instanceMethod ({ cls := "SlimeNet$Slime", name := "begin", desc := "(LSlimeNet$Plate;)V" } : Jvm.MethodName)) ∈ lw_all := lw_g (lw_at lw_m2 6 rfl) rfl
theorem q316 : (Jvm.Cond.selects "SlimeNet$Slime" ({ cls := "SlimeNet$Slime", name := "begin", desc := "(LSlimeNet$Plate;)V" } : Jvm.MethodName) ({ cls := "SlimeNet$Slime", name := "begin", desc := "(LSlimeNet$Plate;)V" } : Jvm.MethodName)) ∈ lw_all := lw_g (lw_at lw_m2 7 rfl) rfl
theorem q317 : (Jvm.Cond.code ({ cls := "SlimeNet$Slime", name := "begin", desc := "(LSlimeNet$Plate;)V" } : Jvm.MethodName) prog_6_method_2_code (3 : Nat) (Option.none : Option Jvm.ClassFile.FieldType)) ∈ lw_all := lw_g (lw_at lw_m2 8 rfl) rfl
theorem q318 : (Jvm.Cond.methodLink "SlimeNet$Slime" (56 : Nat) ({ cls := "java/util/ArrayList", name := "size", desc := "()I" } : Jvm.MethodName)) ∈ lw_all := lw_g (lw_at lw_m2 9 rfl) rfl
theorem q642 : (Jvm.Cond.fieldLinkNest "SlimeNet$Slime" (70 : Nat) "SlimeNet$Pipe" "number" "I" "SlimeNet") ∈ lw_tbl := lw_at lw_m3 93 rfl
theorem q646 : (Jvm.Cond.fieldLinkNest "SlimeNet$Slime" (127 : Nat) "SlimeNet$Pipe" "one" "I" "SlimeNet") ∈ lw_tbl := lw_at lw_m3 97 rfl
theorem q650 : (Jvm.Cond.fieldLinkNest "SlimeNet$Slime" (130 : Nat) "SlimeNet$Pipe" "two" "I" "SlimeNet") ∈ lw_tbl := lw_at lw_m3 101 rfl
theorem q652 : (Jvm.Cond.fieldLinkNest "SlimeNet$Slime" (76 : Nat) "SlimeNet$Pipe" "length" "I" "SlimeNet") ∈ lw_tbl := lw_at lw_m3 103 rfl
theorem q655 : (Jvm.Cond.fieldLinkNest "SlimeNet$Slime" (64 : Nat) "SlimeNet$Pipe" "isSalted" "Z" "SlimeNet") ∈ lw_tbl := lw_at lw_m3 106 rfl
theorem q705 : (Jvm.Cond.selects "SlimeNet$Slime" ({ cls := "java/lang/Object", name := "getClass", desc := "()Ljava/lang/Class;" } : Jvm.MethodName) ({ cls := "java/lang/Object", name := "getClass", desc := "()Ljava/lang/Class;" } : Jvm.MethodName)) ∈ lw_all := lw_g (lw_at lw_m3 156 rfl) rfl
theorem q803 : (Jvm.Cond.instanceMethod ({ cls := "SlimeNet$Slime", name := "flow", desc := "()V" } : Jvm.MethodName)) ∈ lw_all := lw_g (lw_at lw_m4 14 rfl) rfl
theorem q804 : (Jvm.Cond.selects "SlimeNet$Slime" ({ cls := "SlimeNet$Slime", name := "flow", desc := "()V" } : Jvm.MethodName) ({ cls := "SlimeNet$Slime", name := "flow", desc := "()V" } : Jvm.MethodName)) ∈ lw_all := lw_g (lw_at lw_m4 15 rfl) rfl
theorem q805 : (Jvm.Cond.code ({ cls := "SlimeNet$Slime", name := "flow", desc := "()V" } : Jvm.MethodName) prog_6_method_9_code (6 : Nat) (Option.none : Option Jvm.ClassFile.FieldType)) ∈ lw_all := lw_g (lw_at lw_m4 16 rfl) rfl
theorem q806 : (Jvm.Cond.methodLink "SlimeNet$Slime" (90 : Nat) ({ cls := "java/util/Arrays", name := "fill", desc := "([JJ)V" } : Jvm.MethodName)) ∈ lw_all := lw_g (lw_at lw_m4 17 rfl) rfl
theorem q809 : (Jvm.Cond.methodLink "SlimeNet$Slime" (100 : Nat) ({ cls := "SlimeNet$Plate", name := "pairs", desc := "()I" } : Jvm.MethodName)) ∈ lw_all := lw_g (lw_at lw_m4 20 rfl) rfl
theorem q810 : (Jvm.Cond.methodLink "SlimeNet$Slime" (109 : Nat) ({ cls := "SlimeNet$Slime", name := "own", desc := "()I" } : Jvm.MethodName)) ∈ lw_all := lw_g (lw_at lw_m4 21 rfl) rfl
theorem q811 : (Jvm.Cond.instanceMethod ({ cls := "SlimeNet$Slime", name := "own", desc := "()I" } : Jvm.MethodName)) ∈ lw_all := lw_g (lw_at lw_m4 22 rfl) rfl
theorem q812 : (Jvm.Cond.selects "SlimeNet$Slime" ({ cls := "SlimeNet$Slime", name := "own", desc := "()I" } : Jvm.MethodName) ({ cls := "SlimeNet$Slime", name := "own", desc := "()I" } : Jvm.MethodName)) ∈ lw_all := lw_g (lw_at lw_m4 23 rfl) rfl
theorem q813 : (Jvm.Cond.code ({ cls := "SlimeNet$Slime", name := "own", desc := "()I" } : Jvm.MethodName) prog_6_method_4_code (3 : Nat) (Option.some Jvm.ClassFile.FieldType.int)) ∈ lw_all := lw_g (lw_at lw_m4 24 rfl) rfl
theorem q814 : (Jvm.Cond.methodLink "SlimeNet$Slime" (112 : Nat) ({ cls := "SlimeNet$Plate", name := "joined", desc := "(II)I" } : Jvm.MethodName)) ∈ lw_all := lw_g (lw_at lw_m4 25 rfl) rfl
theorem q818 : (Jvm.Cond.methodLink "SlimeNet$Slime" (116 : Nat) ({ cls := "SlimeNet$Slime", name := "lay", desc := "(III)V" } : Jvm.MethodName)) ∈ lw_all := lw_g (lw_at lw_m4 29 rfl) rfl
theorem q819 : (Jvm.Cond.privateMethod ({ cls := "SlimeNet$Slime", name := "lay", desc := "(III)V" } : Jvm.MethodName)) ∈ lw_tbl := lw_at lw_m4 30 rfl
theorem q820 : (Jvm.Cond.instanceMethod ({ cls := "SlimeNet$Slime", name := "lay", desc := "(III)V" } : Jvm.MethodName)) ∈ lw_all := lw_g (lw_at lw_m4 31 rfl) rfl
theorem q821 : (Jvm.Cond.code ({ cls := "SlimeNet$Slime", name := "lay", desc := "(III)V" } : Jvm.MethodName) prog_6_method_10_code (10 : Nat) (Option.none : Option Jvm.ClassFile.FieldType)) ∈ lw_all := lw_g (lw_at lw_m4 32 rfl) rfl
theorem q822 : (Jvm.Cond.methodLink "SlimeNet$Slime" (123 : Nat) ({ cls := "java/util/ArrayList", name := "get", desc := "(I)Ljava/lang/Object;" } : Jvm.MethodName)) ∈ lw_all := lw_g (lw_at lw_m4 33 rfl) rfl
theorem q823 : (Jvm.Cond.classLink "SlimeNet$Slime" (65 : Nat) "SlimeNet$Pipe") ∈ lw_all := lw_g (lw_at lw_m4 34 rfl) rfl
theorem q824 : (Jvm.Cond.methodLink "SlimeNet$Slime" (133 : Nat) ({ cls := "SlimeNet$Slime", name := "leads", desc := "(LSlimeNet$Pipe;)J" } : Jvm.MethodName)) ∈ lw_all := lw_g (lw_at lw_m4 35 rfl) rfl
theorem q825 : (Jvm.Cond.privateMethod ({ cls := "SlimeNet$Slime", name := "leads", desc := "(LSlimeNet$Pipe;)J" } : Jvm.MethodName)) ∈ lw_tbl := lw_at lw_m4 36 rfl
theorem q826 : (Jvm.Cond.instanceMethod ({ cls := "SlimeNet$Slime", name := "leads", desc := "(LSlimeNet$Pipe;)J" } : Jvm.MethodName)) ∈ lw_all := lw_g (lw_at lw_m4 37 rfl) rfl
theorem q827 : (Jvm.Cond.code ({ cls := "SlimeNet$Slime", name := "leads", desc := "(LSlimeNet$Pipe;)J" } : Jvm.MethodName) prog_6_method_5_code (3 : Nat) (Option.some Jvm.ClassFile.FieldType.long)) ∈ lw_all := lw_g (lw_at lw_m4 38 rfl) rfl
theorem q828 : (Jvm.Cond.methodLink "SlimeNet$Slime" (82 : Nat) ({ cls := "SlimeNet$Slime", name := "minor", desc := "(II)J" } : Jvm.MethodName)) ∈ lw_all := lw_g (lw_at lw_m4 39 rfl) rfl
theorem q829 : (Jvm.Cond.privateMethod ({ cls := "SlimeNet$Slime", name := "minor", desc := "(II)J" } : Jvm.MethodName)) ∈ lw_tbl := lw_at lw_m4 40 rfl
theorem q830 : (Jvm.Cond.instanceMethod ({ cls := "SlimeNet$Slime", name := "minor", desc := "(II)J" } : Jvm.MethodName)) ∈ lw_all := lw_g (lw_at lw_m4 41 rfl) rfl
theorem q831 : (Jvm.Cond.code ({ cls := "SlimeNet$Slime", name := "minor", desc := "(II)J" } : Jvm.MethodName) prog_6_method_6_code (7 : Nat) (Option.some Jvm.ClassFile.FieldType.long)) ∈ lw_all := lw_g (lw_at lw_m4 42 rfl) rfl
theorem q832 : (Jvm.Cond.methodLink "SlimeNet$Slime" (137 : Nat) ({ cls := "SlimeNet$Slime", name := "inPlace", desc := "(I)J" } : Jvm.MethodName)) ∈ lw_all := lw_g (lw_at lw_m4 43 rfl) rfl
theorem q833 : (Jvm.Cond.privateMethod ({ cls := "SlimeNet$Slime", name := "inPlace", desc := "(I)J" } : Jvm.MethodName)) ∈ lw_tbl := lw_at lw_m4 44 rfl
theorem q834 : (Jvm.Cond.instanceMethod ({ cls := "SlimeNet$Slime", name := "inPlace", desc := "(I)J" } : Jvm.MethodName)) ∈ lw_all := lw_g (lw_at lw_m4 45 rfl) rfl
theorem q835 : (Jvm.Cond.code ({ cls := "SlimeNet$Slime", name := "inPlace", desc := "(I)J" } : Jvm.MethodName) prog_6_method_7_code (5 : Nat) (Option.some Jvm.ClassFile.FieldType.long)) ∈ lw_all := lw_g (lw_at lw_m4 46 rfl) rfl
theorem q836 : (Jvm.Cond.methodLink "SlimeNet$Slime" (86 : Nat) ({ cls := "SlimeNet$Slime", name := "swap", desc := "(II)V" } : Jvm.MethodName)) ∈ lw_all := lw_g (lw_at lw_m4 47 rfl) rfl
theorem q837 : (Jvm.Cond.privateMethod ({ cls := "SlimeNet$Slime", name := "swap", desc := "(II)V" } : Jvm.MethodName)) ∈ lw_tbl := lw_at lw_m4 48 rfl
theorem q838 : (Jvm.Cond.instanceMethod ({ cls := "SlimeNet$Slime", name := "swap", desc := "(II)V" } : Jvm.MethodName)) ∈ lw_all := lw_g (lw_at lw_m4 49 rfl) rfl
theorem q839 : (Jvm.Cond.code ({ cls := "SlimeNet$Slime", name := "swap", desc := "(II)V" } : Jvm.MethodName) prog_6_method_8_code (5 : Nat) (Option.none : Option Jvm.ClassFile.FieldType)) ∈ lw_all := lw_g (lw_at lw_m4 50 rfl) rfl
theorem q855 : (Jvm.Cond.instanceMethod ({ cls := "SlimeNet$Slime", name := "live", desc := "()V" } : Jvm.MethodName)) ∈ lw_all := lw_g (lw_at lw_m4 66 rfl) rfl
theorem q856 : (Jvm.Cond.selects "SlimeNet$Slime" ({ cls := "SlimeNet$Slime", name := "live", desc := "()V" } : Jvm.MethodName) ({ cls := "SlimeNet$Slime", name := "live", desc := "()V" } : Jvm.MethodName)) ∈ lw_all := lw_g (lw_at lw_m4 67 rfl) rfl
theorem q857 : (Jvm.Cond.code ({ cls := "SlimeNet$Slime", name := "live", desc := "()V" } : Jvm.MethodName) prog_6_method_11_code (4 : Nat) (Option.none : Option Jvm.ClassFile.FieldType)) ∈ lw_all := lw_g (lw_at lw_m4 68 rfl) rfl
theorem q858 : (Jvm.Cond.methodLink "SlimeNet$Slime" (141 : Nat) ({ cls := "SlimeNet$Slime", name := "flow", desc := "()V" } : Jvm.MethodName)) ∈ lw_all := lw_g (lw_at lw_m4 69 rfl) rfl
theorem q859 : (Jvm.Cond.constantLong "SlimeNet$Slime" (143 : Nat) (10 : Int64)) ∈ lw_all := lw_g (lw_at lw_m4 70 rfl) rfl
theorem q860 : (Jvm.Cond.methodLink "SlimeNet$Slime" (145 : Nat) ({ cls := "java/lang/Math", name := "abs", desc := "(J)J" } : Jvm.MethodName)) ∈ lw_all := lw_g (lw_at lw_m4 71 rfl) rfl
theorem q861 : (Jvm.Cond.methodLink "SlimeNet$Slime" (151 : Nat) ({ cls := "java/lang/Math", name := "min", desc := "(II)I" } : Jvm.MethodName)) ∈ lw_all := lw_g (lw_at lw_m4 72 rfl) rfl
theorem q862 : (Jvm.Cond.methodLink "SlimeNet$Slime" (154 : Nat) ({ cls := "java/lang/Math", name := "max", desc := "(II)I" } : Jvm.MethodName)) ∈ lw_all := lw_g (lw_at lw_m4 73 rfl) rfl
theorem q872 : (Jvm.Cond.instanceMethod ({ cls := "SlimeNet$Slime", name := "liveRound", desc := "()V" } : Jvm.MethodName)) ∈ lw_all := lw_g (lw_at lw_m4 83 rfl) rfl
theorem q873 : (Jvm.Cond.selects "SlimeNet$Slime" ({ cls := "SlimeNet$Slime", name := "liveRound", desc := "()V" } : Jvm.MethodName) ({ cls := "SlimeNet$Slime", name := "liveRound", desc := "()V" } : Jvm.MethodName)) ∈ lw_all := lw_g (lw_at lw_m4 84 rfl) rfl
theorem q874 : (Jvm.Cond.code ({ cls := "SlimeNet$Slime", name := "liveRound", desc := "()V" } : Jvm.MethodName) prog_6_method_12_code (2 : Nat) (Option.none : Option Jvm.ClassFile.FieldType)) ∈ lw_all := lw_g (lw_at lw_m4 85 rfl) rfl
theorem q875 : (Jvm.Cond.methodLink "SlimeNet$Slime" (157 : Nat) ({ cls := "SlimeNet$Slime", name := "live", desc := "()V" } : Jvm.MethodName)) ∈ lw_all := lw_g (lw_at lw_m4 86 rfl) rfl
theorem q904 : (Jvm.Cond.instanceMethod ({ cls := "SlimeNet$Slime", name := "become", desc := "(LSlimeNet$Slime;)V" } : Jvm.MethodName)) ∈ lw_all := lw_g (lw_at lw_m4 115 rfl) rfl
theorem q905 : (Jvm.Cond.selects "SlimeNet$Slime" ({ cls := "SlimeNet$Slime", name := "become", desc := "(LSlimeNet$Slime;)V" } : Jvm.MethodName) ({ cls := "SlimeNet$Slime", name := "become", desc := "(LSlimeNet$Slime;)V" } : Jvm.MethodName)) ∈ lw_all := lw_g (lw_at lw_m4 116 rfl) rfl
theorem q906 : (Jvm.Cond.code ({ cls := "SlimeNet$Slime", name := "become", desc := "(LSlimeNet$Slime;)V" } : Jvm.MethodName) prog_6_method_3_code (3 : Nat) (Option.none : Option Jvm.ClassFile.FieldType)) ∈ lw_all := lw_g (lw_at lw_m4 117 rfl) rfl
theorem q1591 : (Jvm.Cond.castable "SlimeNet$Slime" "java/lang/Object") ∈ lw_tbl := lw_at lw_m7 82 rfl
theorem in_X3 : ∀ w ∈ wsX30, w ∈ lw_all := lw_in wsX30 [286, 288, 290, 292, 294, 296, 298, 300, 302, 304, 306, 308, 310] (by decide +kernel) (by decide +kernel)
/-! SlimeNet$Reader -/
set_option maxRecDepth 100000
def RX5 : String := "SlimeNet$Reader"
abbrev cX5_init : ByteArray := prog_5_method_1_code
def yX5_init : MethodName := ⟨RX5, "<init>", "(LSlimeNet;I)V"⟩
def dkwX5_init_0 : List UInt8 := [42, 43, 181, 0, 3, 42, 183, 0, 9, 42, 28, 181, 0, 15, 42, 182, 0, 19, 177]
abbrev dktX5_init_0 : List UInt8 := dkwX5_init_0 ++ []
theorem dksX5_init_0 : cX5_init.data.toList.drop 0 = dktX5_init_0 := by decide +kernel
theorem dX5_init_0 : decode cX5_init 0 = .ok (.aload_n 0, 1) := dk_42 (dk_at dksX5_init_0 0 rfl rfl)
theorem dX5_init_1 : decode cX5_init 1 = .ok (.aload_n 1, 1) := dk_43 (dk_at dksX5_init_0 1 rfl rfl)
theorem dX5_init_2 : decode cX5_init 2 = .ok (.putfield 3, 3) := dk_181 0 3 (dk_at dksX5_init_0 2 rfl rfl)
theorem dX5_init_5 : decode cX5_init 5 = .ok (.aload_n 0, 1) := dk_42 (dk_at dksX5_init_0 5 rfl rfl)
theorem dX5_init_6 : decode cX5_init 6 = .ok (.invokespecial 9, 3) := dk_183 0 9 (dk_at dksX5_init_0 6 rfl rfl)
theorem dX5_init_9 : decode cX5_init 9 = .ok (.aload_n 0, 1) := dk_42 (dk_at dksX5_init_0 9 rfl rfl)
theorem dX5_init_10 : decode cX5_init 10 = .ok (.iload_n 2, 1) := dk_28 (dk_at dksX5_init_0 10 rfl rfl)
theorem dX5_init_11 : decode cX5_init 11 = .ok (.putfield 15, 3) := dk_181 0 15 (dk_at dksX5_init_0 11 rfl rfl)
theorem dX5_init_14 : decode cX5_init 14 = .ok (.aload_n 0, 1) := dk_42 (dk_at dksX5_init_0 14 rfl rfl)
theorem dX5_init_15 : decode cX5_init 15 = .ok (.invokevirtual 19, 3) := dk_182 0 19 (dk_at dksX5_init_0 15 rfl rfl)
theorem dX5_init_18 : decode cX5_init 18 = .ok (.return_, 1) := dk_177 (dk_at dksX5_init_0 18 rfl rfl)
abbrev cX5_goOn : ByteArray := prog_5_method_5_code
def yX5_goOn : MethodName := ⟨RX5, "goOn", "()V"⟩
def dkwX5_goOn_11 : List UInt8 := [181, 0, 36, 177]
abbrev dktX5_goOn_11 : List UInt8 := dkwX5_goOn_11 ++ []
def dkwX5_goOn_10 : List UInt8 := [167, 0, 4, 5, 181, 0, 36, 167, 0, 18, 42, 28, 16, 59, 160, 0, 7, 6, 167, 0, 4, 7]
abbrev dktX5_goOn_10 : List UInt8 := dkwX5_goOn_10 ++ dktX5_goOn_11
def dkwX5_goOn_9 : List UInt8 := [180, 0, 26, 4, 96, 181, 0, 26, 167, 255, 191, 42, 42, 180, 0, 26, 27, 100, 7, 164, 0, 7, 7]
abbrev dktX5_goOn_9 : List UInt8 := dkwX5_goOn_9 ++ dktX5_goOn_10
def dkwX5_goOn_8 : List UInt8 := [180, 0, 26, 182, 0, 29, 96, 16, 48, 100, 167, 0, 7, 42, 180, 0, 46, 181, 0, 46, 42, 89]
abbrev dktX5_goOn_8 : List UInt8 := dkwX5_goOn_8 ++ dktX5_goOn_9
def dkwX5_goOn_7 : List UInt8 := [153, 0, 56, 42, 42, 180, 0, 26, 27, 100, 7, 162, 0, 25, 16, 10, 42, 180, 0, 46, 104, 42, 42]
abbrev dktX5_goOn_7 : List UInt8 := dkwX5_goOn_7 ++ dktX5_goOn_8
def dkwX5_goOn_6 : List UInt8 := [42, 3, 181, 0, 46, 42, 27, 181, 0, 26, 42, 42, 42, 180, 0, 26, 182, 0, 29, 182, 0, 43]
abbrev dktX5_goOn_6 : List UInt8 := dkwX5_goOn_6 ++ dktX5_goOn_7
def dkwX5_goOn_5 : List UInt8 := [16, 8, 164, 0, 7, 7, 167, 0, 4, 4, 181, 0, 36, 167, 0, 126, 42, 28, 182, 0, 43, 153, 0, 103]
abbrev dktX5_goOn_5 : List UInt8 := dkwX5_goOn_5 ++ dktX5_goOn_6
def dkwX5_goOn_4 : List UInt8 := [153, 0, 16, 42, 89, 180, 0, 26, 4, 96, 181, 0, 26, 167, 255, 231, 42, 42, 180, 0, 26, 27, 100]
abbrev dktX5_goOn_4 : List UInt8 := dkwX5_goOn_4 ++ dktX5_goOn_5
def dkwX5_goOn_3 : List UInt8 := [167, 0, 185, 42, 28, 182, 0, 39, 153, 0, 54, 42, 42, 42, 180, 0, 26, 182, 0, 29, 182, 0, 39]
abbrev dktX5_goOn_3 : List UInt8 := dkwX5_goOn_3 ++ dktX5_goOn_4
def dkwX5_goOn_2 : List UInt8 := [182, 0, 29, 61, 27, 42, 180, 0, 15, 161, 0, 16, 42, 3, 181, 0, 36, 42, 27, 181, 0, 26]
abbrev dktX5_goOn_2 : List UInt8 := dkwX5_goOn_2 ++ dktX5_goOn_3
def dkwX5_goOn_1 : List UInt8 := [160, 0, 9, 132, 1, 1, 167, 255, 233, 42, 27, 181, 0, 33, 42, 27, 4, 96, 181, 0, 26, 42, 27]
abbrev dktX5_goOn_1 : List UInt8 := dkwX5_goOn_1 ++ dktX5_goOn_2
def dkwX5_goOn_0 : List UInt8 := [42, 180, 0, 26, 60, 42, 27, 182, 0, 29, 16, 32, 159, 0, 13, 42, 27, 182, 0, 29, 16, 10]
abbrev dktX5_goOn_0 : List UInt8 := dkwX5_goOn_0 ++ dktX5_goOn_1
theorem dksX5_goOn_0 : cX5_goOn.data.toList.drop 0 = dktX5_goOn_0 := by decide +kernel
theorem dksX5_goOn_1 : cX5_goOn.data.toList.drop 22 = dktX5_goOn_1 := dk_seg dksX5_goOn_0 22 rfl rfl
theorem dksX5_goOn_2 : cX5_goOn.data.toList.drop 45 = dktX5_goOn_2 := dk_seg dksX5_goOn_1 23 rfl rfl
theorem dksX5_goOn_3 : cX5_goOn.data.toList.drop 67 = dktX5_goOn_3 := dk_seg dksX5_goOn_2 22 rfl rfl
theorem dksX5_goOn_4 : cX5_goOn.data.toList.drop 90 = dktX5_goOn_4 := dk_seg dksX5_goOn_3 23 rfl rfl
theorem dksX5_goOn_5 : cX5_goOn.data.toList.drop 113 = dktX5_goOn_5 := dk_seg dksX5_goOn_4 23 rfl rfl
theorem dksX5_goOn_6 : cX5_goOn.data.toList.drop 137 = dktX5_goOn_6 := dk_seg dksX5_goOn_5 24 rfl rfl
theorem dksX5_goOn_7 : cX5_goOn.data.toList.drop 159 = dktX5_goOn_7 := dk_seg dksX5_goOn_6 22 rfl rfl
theorem dksX5_goOn_8 : cX5_goOn.data.toList.drop 182 = dktX5_goOn_8 := dk_seg dksX5_goOn_7 23 rfl rfl
theorem dksX5_goOn_9 : cX5_goOn.data.toList.drop 204 = dktX5_goOn_9 := dk_seg dksX5_goOn_8 22 rfl rfl
theorem dksX5_goOn_10 : cX5_goOn.data.toList.drop 227 = dktX5_goOn_10 := dk_seg dksX5_goOn_9 23 rfl rfl
theorem dksX5_goOn_11 : cX5_goOn.data.toList.drop 249 = dktX5_goOn_11 := dk_seg dksX5_goOn_10 22 rfl rfl
theorem dX5_goOn_0 : decode cX5_goOn 0 = .ok (.aload_n 0, 1) := dk_42 (dk_at dksX5_goOn_0 0 rfl rfl)
theorem dX5_goOn_1 : decode cX5_goOn 1 = .ok (.getfield 26, 3) := dk_180 0 26 (dk_at dksX5_goOn_0 1 rfl rfl)
theorem dX5_goOn_4 : decode cX5_goOn 4 = .ok (.istore_n 1, 1) := dk_60 (dk_at dksX5_goOn_0 4 rfl rfl)
theorem dX5_goOn_5 : decode cX5_goOn 5 = .ok (.aload_n 0, 1) := dk_42 (dk_at dksX5_goOn_0 5 rfl rfl)
theorem dX5_goOn_6 : decode cX5_goOn 6 = .ok (.iload_n 1, 1) := dk_27 (dk_at dksX5_goOn_0 6 rfl rfl)
theorem dX5_goOn_7 : decode cX5_goOn 7 = .ok (.invokevirtual 29, 3) := dk_182 0 29 (dk_at dksX5_goOn_0 7 rfl rfl)
theorem dX5_goOn_10 : decode cX5_goOn 10 = .ok (.bipush 32, 2) := dk_16 32 (dk_at dksX5_goOn_0 10 rfl rfl)
theorem dX5_goOn_12 : decode cX5_goOn 12 = .ok (.if_icmp .eq 13, 3) := dk_159 0 13 (dk_at dksX5_goOn_0 12 rfl rfl)
theorem dX5_goOn_15 : decode cX5_goOn 15 = .ok (.aload_n 0, 1) := dk_42 (dk_at dksX5_goOn_0 15 rfl rfl)
theorem dX5_goOn_16 : decode cX5_goOn 16 = .ok (.iload_n 1, 1) := dk_27 (dk_at dksX5_goOn_0 16 rfl rfl)
theorem dX5_goOn_17 : decode cX5_goOn 17 = .ok (.invokevirtual 29, 3) := dk_182 0 29 (dk_at dksX5_goOn_0 17 rfl rfl)
theorem dX5_goOn_20 : decode cX5_goOn 20 = .ok (.bipush 10, 2) := dk_16 10 (dk_at dksX5_goOn_0 20 rfl rfl)
theorem dX5_goOn_22 : decode cX5_goOn 22 = .ok (.if_icmp .ne 9, 3) := dk_160 0 9 (dk_at dksX5_goOn_1 0 rfl rfl)
theorem dX5_goOn_25 : decode cX5_goOn 25 = .ok (.iinc 1 1, 3) := dk_132 1 1 (dk_at dksX5_goOn_1 3 rfl rfl)
theorem dX5_goOn_28 : decode cX5_goOn 28 = .ok (.goto (-23), 3) := dk_167 255 233 (dk_at dksX5_goOn_1 6 rfl rfl)
theorem dX5_goOn_31 : decode cX5_goOn 31 = .ok (.aload_n 0, 1) := dk_42 (dk_at dksX5_goOn_1 9 rfl rfl)
theorem dX5_goOn_32 : decode cX5_goOn 32 = .ok (.iload_n 1, 1) := dk_27 (dk_at dksX5_goOn_1 10 rfl rfl)
theorem dX5_goOn_33 : decode cX5_goOn 33 = .ok (.putfield 33, 3) := dk_181 0 33 (dk_at dksX5_goOn_1 11 rfl rfl)
theorem dX5_goOn_36 : decode cX5_goOn 36 = .ok (.aload_n 0, 1) := dk_42 (dk_at dksX5_goOn_1 14 rfl rfl)
theorem dX5_goOn_37 : decode cX5_goOn 37 = .ok (.iload_n 1, 1) := dk_27 (dk_at dksX5_goOn_1 15 rfl rfl)
theorem dX5_goOn_38 : decode cX5_goOn 38 = .ok (.iconst 1, 1) := dk_4 (dk_at dksX5_goOn_1 16 rfl rfl)
theorem dX5_goOn_39 : decode cX5_goOn 39 = .ok (.iadd, 1) := dk_96 (dk_at dksX5_goOn_1 17 rfl rfl)
theorem dX5_goOn_40 : decode cX5_goOn 40 = .ok (.putfield 26, 3) := dk_181 0 26 (dk_at dksX5_goOn_1 18 rfl rfl)
theorem dX5_goOn_43 : decode cX5_goOn 43 = .ok (.aload_n 0, 1) := dk_42 (dk_at dksX5_goOn_1 21 rfl rfl)
theorem dX5_goOn_44 : decode cX5_goOn 44 = .ok (.iload_n 1, 1) := dk_27 (dk_at dksX5_goOn_1 22 rfl rfl)
theorem dX5_goOn_45 : decode cX5_goOn 45 = .ok (.invokevirtual 29, 3) := dk_182 0 29 (dk_at dksX5_goOn_2 0 rfl rfl)
theorem dX5_goOn_48 : decode cX5_goOn 48 = .ok (.istore_n 2, 1) := dk_61 (dk_at dksX5_goOn_2 3 rfl rfl)
theorem dX5_goOn_49 : decode cX5_goOn 49 = .ok (.iload_n 1, 1) := dk_27 (dk_at dksX5_goOn_2 4 rfl rfl)
theorem dX5_goOn_50 : decode cX5_goOn 50 = .ok (.aload_n 0, 1) := dk_42 (dk_at dksX5_goOn_2 5 rfl rfl)
theorem dX5_goOn_51 : decode cX5_goOn 51 = .ok (.getfield 15, 3) := dk_180 0 15 (dk_at dksX5_goOn_2 6 rfl rfl)
theorem dX5_goOn_54 : decode cX5_goOn 54 = .ok (.if_icmp .lt 16, 3) := dk_161 0 16 (dk_at dksX5_goOn_2 9 rfl rfl)
theorem dX5_goOn_57 : decode cX5_goOn 57 = .ok (.aload_n 0, 1) := dk_42 (dk_at dksX5_goOn_2 12 rfl rfl)
theorem dX5_goOn_58 : decode cX5_goOn 58 = .ok (.iconst 0, 1) := dk_3 (dk_at dksX5_goOn_2 13 rfl rfl)
theorem dX5_goOn_59 : decode cX5_goOn 59 = .ok (.putfield 36, 3) := dk_181 0 36 (dk_at dksX5_goOn_2 14 rfl rfl)
theorem dX5_goOn_62 : decode cX5_goOn 62 = .ok (.aload_n 0, 1) := dk_42 (dk_at dksX5_goOn_2 17 rfl rfl)
theorem dX5_goOn_63 : decode cX5_goOn 63 = .ok (.iload_n 1, 1) := dk_27 (dk_at dksX5_goOn_2 18 rfl rfl)
theorem dX5_goOn_64 : decode cX5_goOn 64 = .ok (.putfield 26, 3) := dk_181 0 26 (dk_at dksX5_goOn_2 19 rfl rfl)
theorem dX5_goOn_67 : decode cX5_goOn 67 = .ok (.goto 185, 3) := dk_167 0 185 (dk_at dksX5_goOn_3 0 rfl rfl)
theorem dX5_goOn_70 : decode cX5_goOn 70 = .ok (.aload_n 0, 1) := dk_42 (dk_at dksX5_goOn_3 3 rfl rfl)
theorem dX5_goOn_71 : decode cX5_goOn 71 = .ok (.iload_n 2, 1) := dk_28 (dk_at dksX5_goOn_3 4 rfl rfl)
theorem dX5_goOn_72 : decode cX5_goOn 72 = .ok (.invokevirtual 39, 3) := dk_182 0 39 (dk_at dksX5_goOn_3 5 rfl rfl)
theorem dX5_goOn_75 : decode cX5_goOn 75 = .ok (.ifCond .eq 54, 3) := dk_153 0 54 (dk_at dksX5_goOn_3 8 rfl rfl)
theorem dX5_goOn_78 : decode cX5_goOn 78 = .ok (.aload_n 0, 1) := dk_42 (dk_at dksX5_goOn_3 11 rfl rfl)
theorem dX5_goOn_79 : decode cX5_goOn 79 = .ok (.aload_n 0, 1) := dk_42 (dk_at dksX5_goOn_3 12 rfl rfl)
theorem dX5_goOn_80 : decode cX5_goOn 80 = .ok (.aload_n 0, 1) := dk_42 (dk_at dksX5_goOn_3 13 rfl rfl)
theorem dX5_goOn_81 : decode cX5_goOn 81 = .ok (.getfield 26, 3) := dk_180 0 26 (dk_at dksX5_goOn_3 14 rfl rfl)
theorem dX5_goOn_84 : decode cX5_goOn 84 = .ok (.invokevirtual 29, 3) := dk_182 0 29 (dk_at dksX5_goOn_3 17 rfl rfl)
theorem dX5_goOn_87 : decode cX5_goOn 87 = .ok (.invokevirtual 39, 3) := dk_182 0 39 (dk_at dksX5_goOn_3 20 rfl rfl)
theorem dX5_goOn_90 : decode cX5_goOn 90 = .ok (.ifCond .eq 16, 3) := dk_153 0 16 (dk_at dksX5_goOn_4 0 rfl rfl)
theorem dX5_goOn_93 : decode cX5_goOn 93 = .ok (.aload_n 0, 1) := dk_42 (dk_at dksX5_goOn_4 3 rfl rfl)
theorem dX5_goOn_94 : decode cX5_goOn 94 = .ok (.dup, 1) := dk_89 (dk_at dksX5_goOn_4 4 rfl rfl)
theorem dX5_goOn_95 : decode cX5_goOn 95 = .ok (.getfield 26, 3) := dk_180 0 26 (dk_at dksX5_goOn_4 5 rfl rfl)
theorem dX5_goOn_98 : decode cX5_goOn 98 = .ok (.iconst 1, 1) := dk_4 (dk_at dksX5_goOn_4 8 rfl rfl)
theorem dX5_goOn_99 : decode cX5_goOn 99 = .ok (.iadd, 1) := dk_96 (dk_at dksX5_goOn_4 9 rfl rfl)
theorem dX5_goOn_100 : decode cX5_goOn 100 = .ok (.putfield 26, 3) := dk_181 0 26 (dk_at dksX5_goOn_4 10 rfl rfl)
theorem dX5_goOn_103 : decode cX5_goOn 103 = .ok (.goto (-25), 3) := dk_167 255 231 (dk_at dksX5_goOn_4 13 rfl rfl)
theorem dX5_goOn_106 : decode cX5_goOn 106 = .ok (.aload_n 0, 1) := dk_42 (dk_at dksX5_goOn_4 16 rfl rfl)
theorem dX5_goOn_107 : decode cX5_goOn 107 = .ok (.aload_n 0, 1) := dk_42 (dk_at dksX5_goOn_4 17 rfl rfl)
theorem dX5_goOn_108 : decode cX5_goOn 108 = .ok (.getfield 26, 3) := dk_180 0 26 (dk_at dksX5_goOn_4 18 rfl rfl)
theorem dX5_goOn_111 : decode cX5_goOn 111 = .ok (.iload_n 1, 1) := dk_27 (dk_at dksX5_goOn_4 21 rfl rfl)
theorem dX5_goOn_112 : decode cX5_goOn 112 = .ok (.isub, 1) := dk_100 (dk_at dksX5_goOn_4 22 rfl rfl)
theorem dX5_goOn_113 : decode cX5_goOn 113 = .ok (.bipush 8, 2) := dk_16 8 (dk_at dksX5_goOn_5 0 rfl rfl)
theorem dX5_goOn_115 : decode cX5_goOn 115 = .ok (.if_icmp .le 7, 3) := dk_164 0 7 (dk_at dksX5_goOn_5 2 rfl rfl)
theorem dX5_goOn_118 : decode cX5_goOn 118 = .ok (.iconst 4, 1) := dk_7 (dk_at dksX5_goOn_5 5 rfl rfl)
theorem dX5_goOn_119 : decode cX5_goOn 119 = .ok (.goto 4, 3) := dk_167 0 4 (dk_at dksX5_goOn_5 6 rfl rfl)
theorem dX5_goOn_122 : decode cX5_goOn 122 = .ok (.iconst 1, 1) := dk_4 (dk_at dksX5_goOn_5 9 rfl rfl)
theorem dX5_goOn_123 : decode cX5_goOn 123 = .ok (.putfield 36, 3) := dk_181 0 36 (dk_at dksX5_goOn_5 10 rfl rfl)
theorem dX5_goOn_126 : decode cX5_goOn 126 = .ok (.goto 126, 3) := dk_167 0 126 (dk_at dksX5_goOn_5 13 rfl rfl)
theorem dX5_goOn_129 : decode cX5_goOn 129 = .ok (.aload_n 0, 1) := dk_42 (dk_at dksX5_goOn_5 16 rfl rfl)
theorem dX5_goOn_130 : decode cX5_goOn 130 = .ok (.iload_n 2, 1) := dk_28 (dk_at dksX5_goOn_5 17 rfl rfl)
theorem dX5_goOn_131 : decode cX5_goOn 131 = .ok (.invokevirtual 43, 3) := dk_182 0 43 (dk_at dksX5_goOn_5 18 rfl rfl)
theorem dX5_goOn_134 : decode cX5_goOn 134 = .ok (.ifCond .eq 103, 3) := dk_153 0 103 (dk_at dksX5_goOn_5 21 rfl rfl)
theorem dX5_goOn_137 : decode cX5_goOn 137 = .ok (.aload_n 0, 1) := dk_42 (dk_at dksX5_goOn_6 0 rfl rfl)
theorem dX5_goOn_138 : decode cX5_goOn 138 = .ok (.iconst 0, 1) := dk_3 (dk_at dksX5_goOn_6 1 rfl rfl)
theorem dX5_goOn_139 : decode cX5_goOn 139 = .ok (.putfield 46, 3) := dk_181 0 46 (dk_at dksX5_goOn_6 2 rfl rfl)
theorem dX5_goOn_142 : decode cX5_goOn 142 = .ok (.aload_n 0, 1) := dk_42 (dk_at dksX5_goOn_6 5 rfl rfl)
theorem dX5_goOn_143 : decode cX5_goOn 143 = .ok (.iload_n 1, 1) := dk_27 (dk_at dksX5_goOn_6 6 rfl rfl)
theorem dX5_goOn_144 : decode cX5_goOn 144 = .ok (.putfield 26, 3) := dk_181 0 26 (dk_at dksX5_goOn_6 7 rfl rfl)
theorem dX5_goOn_147 : decode cX5_goOn 147 = .ok (.aload_n 0, 1) := dk_42 (dk_at dksX5_goOn_6 10 rfl rfl)
theorem dX5_goOn_148 : decode cX5_goOn 148 = .ok (.aload_n 0, 1) := dk_42 (dk_at dksX5_goOn_6 11 rfl rfl)
theorem dX5_goOn_149 : decode cX5_goOn 149 = .ok (.aload_n 0, 1) := dk_42 (dk_at dksX5_goOn_6 12 rfl rfl)
theorem dX5_goOn_150 : decode cX5_goOn 150 = .ok (.getfield 26, 3) := dk_180 0 26 (dk_at dksX5_goOn_6 13 rfl rfl)
theorem dX5_goOn_153 : decode cX5_goOn 153 = .ok (.invokevirtual 29, 3) := dk_182 0 29 (dk_at dksX5_goOn_6 16 rfl rfl)
theorem dX5_goOn_156 : decode cX5_goOn 156 = .ok (.invokevirtual 43, 3) := dk_182 0 43 (dk_at dksX5_goOn_6 19 rfl rfl)
theorem dX5_goOn_159 : decode cX5_goOn 159 = .ok (.ifCond .eq 56, 3) := dk_153 0 56 (dk_at dksX5_goOn_7 0 rfl rfl)
theorem dX5_goOn_162 : decode cX5_goOn 162 = .ok (.aload_n 0, 1) := dk_42 (dk_at dksX5_goOn_7 3 rfl rfl)
theorem dX5_goOn_163 : decode cX5_goOn 163 = .ok (.aload_n 0, 1) := dk_42 (dk_at dksX5_goOn_7 4 rfl rfl)
theorem dX5_goOn_164 : decode cX5_goOn 164 = .ok (.getfield 26, 3) := dk_180 0 26 (dk_at dksX5_goOn_7 5 rfl rfl)
theorem dX5_goOn_167 : decode cX5_goOn 167 = .ok (.iload_n 1, 1) := dk_27 (dk_at dksX5_goOn_7 8 rfl rfl)
theorem dX5_goOn_168 : decode cX5_goOn 168 = .ok (.isub, 1) := dk_100 (dk_at dksX5_goOn_7 9 rfl rfl)
theorem dX5_goOn_169 : decode cX5_goOn 169 = .ok (.iconst 4, 1) := dk_7 (dk_at dksX5_goOn_7 10 rfl rfl)
theorem dX5_goOn_170 : decode cX5_goOn 170 = .ok (.if_icmp .ge 25, 3) := dk_162 0 25 (dk_at dksX5_goOn_7 11 rfl rfl)
theorem dX5_goOn_173 : decode cX5_goOn 173 = .ok (.bipush 10, 2) := dk_16 10 (dk_at dksX5_goOn_7 14 rfl rfl)
theorem dX5_goOn_175 : decode cX5_goOn 175 = .ok (.aload_n 0, 1) := dk_42 (dk_at dksX5_goOn_7 16 rfl rfl)
theorem dX5_goOn_176 : decode cX5_goOn 176 = .ok (.getfield 46, 3) := dk_180 0 46 (dk_at dksX5_goOn_7 17 rfl rfl)
theorem dX5_goOn_179 : decode cX5_goOn 179 = .ok (.imul, 1) := dk_104 (dk_at dksX5_goOn_7 20 rfl rfl)
theorem dX5_goOn_180 : decode cX5_goOn 180 = .ok (.aload_n 0, 1) := dk_42 (dk_at dksX5_goOn_7 21 rfl rfl)
theorem dX5_goOn_181 : decode cX5_goOn 181 = .ok (.aload_n 0, 1) := dk_42 (dk_at dksX5_goOn_7 22 rfl rfl)
theorem dX5_goOn_182 : decode cX5_goOn 182 = .ok (.getfield 26, 3) := dk_180 0 26 (dk_at dksX5_goOn_8 0 rfl rfl)
theorem dX5_goOn_185 : decode cX5_goOn 185 = .ok (.invokevirtual 29, 3) := dk_182 0 29 (dk_at dksX5_goOn_8 3 rfl rfl)
theorem dX5_goOn_188 : decode cX5_goOn 188 = .ok (.iadd, 1) := dk_96 (dk_at dksX5_goOn_8 6 rfl rfl)
theorem dX5_goOn_189 : decode cX5_goOn 189 = .ok (.bipush 48, 2) := dk_16 48 (dk_at dksX5_goOn_8 7 rfl rfl)
theorem dX5_goOn_191 : decode cX5_goOn 191 = .ok (.isub, 1) := dk_100 (dk_at dksX5_goOn_8 9 rfl rfl)
theorem dX5_goOn_192 : decode cX5_goOn 192 = .ok (.goto 7, 3) := dk_167 0 7 (dk_at dksX5_goOn_8 10 rfl rfl)
theorem dX5_goOn_195 : decode cX5_goOn 195 = .ok (.aload_n 0, 1) := dk_42 (dk_at dksX5_goOn_8 13 rfl rfl)
theorem dX5_goOn_196 : decode cX5_goOn 196 = .ok (.getfield 46, 3) := dk_180 0 46 (dk_at dksX5_goOn_8 14 rfl rfl)
theorem dX5_goOn_199 : decode cX5_goOn 199 = .ok (.putfield 46, 3) := dk_181 0 46 (dk_at dksX5_goOn_8 17 rfl rfl)
theorem dX5_goOn_202 : decode cX5_goOn 202 = .ok (.aload_n 0, 1) := dk_42 (dk_at dksX5_goOn_8 20 rfl rfl)
theorem dX5_goOn_203 : decode cX5_goOn 203 = .ok (.dup, 1) := dk_89 (dk_at dksX5_goOn_8 21 rfl rfl)
theorem dX5_goOn_204 : decode cX5_goOn 204 = .ok (.getfield 26, 3) := dk_180 0 26 (dk_at dksX5_goOn_9 0 rfl rfl)
theorem dX5_goOn_207 : decode cX5_goOn 207 = .ok (.iconst 1, 1) := dk_4 (dk_at dksX5_goOn_9 3 rfl rfl)
theorem dX5_goOn_208 : decode cX5_goOn 208 = .ok (.iadd, 1) := dk_96 (dk_at dksX5_goOn_9 4 rfl rfl)
theorem dX5_goOn_209 : decode cX5_goOn 209 = .ok (.putfield 26, 3) := dk_181 0 26 (dk_at dksX5_goOn_9 5 rfl rfl)
theorem dX5_goOn_212 : decode cX5_goOn 212 = .ok (.goto (-65), 3) := dk_167 255 191 (dk_at dksX5_goOn_9 8 rfl rfl)
theorem dX5_goOn_215 : decode cX5_goOn 215 = .ok (.aload_n 0, 1) := dk_42 (dk_at dksX5_goOn_9 11 rfl rfl)
theorem dX5_goOn_216 : decode cX5_goOn 216 = .ok (.aload_n 0, 1) := dk_42 (dk_at dksX5_goOn_9 12 rfl rfl)
theorem dX5_goOn_217 : decode cX5_goOn 217 = .ok (.getfield 26, 3) := dk_180 0 26 (dk_at dksX5_goOn_9 13 rfl rfl)
theorem dX5_goOn_220 : decode cX5_goOn 220 = .ok (.iload_n 1, 1) := dk_27 (dk_at dksX5_goOn_9 16 rfl rfl)
theorem dX5_goOn_221 : decode cX5_goOn 221 = .ok (.isub, 1) := dk_100 (dk_at dksX5_goOn_9 17 rfl rfl)
theorem dX5_goOn_222 : decode cX5_goOn 222 = .ok (.iconst 4, 1) := dk_7 (dk_at dksX5_goOn_9 18 rfl rfl)
theorem dX5_goOn_223 : decode cX5_goOn 223 = .ok (.if_icmp .le 7, 3) := dk_164 0 7 (dk_at dksX5_goOn_9 19 rfl rfl)
theorem dX5_goOn_226 : decode cX5_goOn 226 = .ok (.iconst 4, 1) := dk_7 (dk_at dksX5_goOn_9 22 rfl rfl)
theorem dX5_goOn_227 : decode cX5_goOn 227 = .ok (.goto 4, 3) := dk_167 0 4 (dk_at dksX5_goOn_10 0 rfl rfl)
theorem dX5_goOn_230 : decode cX5_goOn 230 = .ok (.iconst 2, 1) := dk_5 (dk_at dksX5_goOn_10 3 rfl rfl)
theorem dX5_goOn_231 : decode cX5_goOn 231 = .ok (.putfield 36, 3) := dk_181 0 36 (dk_at dksX5_goOn_10 4 rfl rfl)
theorem dX5_goOn_234 : decode cX5_goOn 234 = .ok (.goto 18, 3) := dk_167 0 18 (dk_at dksX5_goOn_10 7 rfl rfl)
theorem dX5_goOn_237 : decode cX5_goOn 237 = .ok (.aload_n 0, 1) := dk_42 (dk_at dksX5_goOn_10 10 rfl rfl)
theorem dX5_goOn_238 : decode cX5_goOn 238 = .ok (.iload_n 2, 1) := dk_28 (dk_at dksX5_goOn_10 11 rfl rfl)
theorem dX5_goOn_239 : decode cX5_goOn 239 = .ok (.bipush 59, 2) := dk_16 59 (dk_at dksX5_goOn_10 12 rfl rfl)
theorem dX5_goOn_241 : decode cX5_goOn 241 = .ok (.if_icmp .ne 7, 3) := dk_160 0 7 (dk_at dksX5_goOn_10 14 rfl rfl)
theorem dX5_goOn_244 : decode cX5_goOn 244 = .ok (.iconst 3, 1) := dk_6 (dk_at dksX5_goOn_10 17 rfl rfl)
theorem dX5_goOn_245 : decode cX5_goOn 245 = .ok (.goto 4, 3) := dk_167 0 4 (dk_at dksX5_goOn_10 18 rfl rfl)
theorem dX5_goOn_248 : decode cX5_goOn 248 = .ok (.iconst 4, 1) := dk_7 (dk_at dksX5_goOn_10 21 rfl rfl)
theorem dX5_goOn_249 : decode cX5_goOn 249 = .ok (.putfield 36, 3) := dk_181 0 36 (dk_at dksX5_goOn_11 0 rfl rfl)
theorem dX5_goOn_252 : decode cX5_goOn 252 = .ok (.return_, 1) := dk_177 (dk_at dksX5_goOn_11 3 rfl rfl)
abbrev cX5_see : ByteArray := prog_5_method_2_code
def yX5_see : MethodName := ⟨RX5, "see", "(I)I"⟩
def dkwX5_see_1 : List UInt8 := [3, 172]
abbrev dktX5_see_1 : List UInt8 := dkwX5_see_1 ++ []
def dkwX5_see_0 : List UInt8 := [27, 42, 180, 0, 15, 162, 0, 19, 42, 180, 0, 3, 180, 0, 22, 27, 51, 17, 0, 255, 126, 167, 0, 4]
abbrev dktX5_see_0 : List UInt8 := dkwX5_see_0 ++ dktX5_see_1
theorem dksX5_see_0 : cX5_see.data.toList.drop 0 = dktX5_see_0 := by decide +kernel
theorem dksX5_see_1 : cX5_see.data.toList.drop 24 = dktX5_see_1 := dk_seg dksX5_see_0 24 rfl rfl
theorem dX5_see_0 : decode cX5_see 0 = .ok (.iload_n 1, 1) := dk_27 (dk_at dksX5_see_0 0 rfl rfl)
theorem dX5_see_1 : decode cX5_see 1 = .ok (.aload_n 0, 1) := dk_42 (dk_at dksX5_see_0 1 rfl rfl)
theorem dX5_see_2 : decode cX5_see 2 = .ok (.getfield 15, 3) := dk_180 0 15 (dk_at dksX5_see_0 2 rfl rfl)
theorem dX5_see_5 : decode cX5_see 5 = .ok (.if_icmp .ge 19, 3) := dk_162 0 19 (dk_at dksX5_see_0 5 rfl rfl)
theorem dX5_see_8 : decode cX5_see 8 = .ok (.aload_n 0, 1) := dk_42 (dk_at dksX5_see_0 8 rfl rfl)
theorem dX5_see_9 : decode cX5_see 9 = .ok (.getfield 3, 3) := dk_180 0 3 (dk_at dksX5_see_0 9 rfl rfl)
theorem dX5_see_12 : decode cX5_see 12 = .ok (.getfield 22, 3) := dk_180 0 22 (dk_at dksX5_see_0 12 rfl rfl)
theorem dX5_see_15 : decode cX5_see 15 = .ok (.iload_n 1, 1) := dk_27 (dk_at dksX5_see_0 15 rfl rfl)
theorem dX5_see_16 : decode cX5_see 16 = .ok (.baload, 1) := dk_51 (dk_at dksX5_see_0 16 rfl rfl)
theorem dX5_see_17 : decode cX5_see 17 = .ok (.sipush 255, 3) := dk_17 0 255 (dk_at dksX5_see_0 17 rfl rfl)
theorem dX5_see_20 : decode cX5_see 20 = .ok (.iand, 1) := dk_126 (dk_at dksX5_see_0 20 rfl rfl)
theorem dX5_see_21 : decode cX5_see 21 = .ok (.goto 4, 3) := dk_167 0 4 (dk_at dksX5_see_0 21 rfl rfl)
theorem dX5_see_24 : decode cX5_see 24 = .ok (.iconst 0, 1) := dk_3 (dk_at dksX5_see_1 0 rfl rfl)
theorem dX5_see_25 : decode cX5_see 25 = .ok (.ireturn, 1) := dk_172 (dk_at dksX5_see_1 1 rfl rfl)
abbrev cX5_isSmall : ByteArray := prog_5_method_3_code
def yX5_isSmall : MethodName := ⟨RX5, "isSmall", "(I)Z"⟩
def dkwX5_isSmall_0 : List UInt8 := [27, 16, 97, 161, 0, 13, 27, 16, 122, 163, 0, 7, 4, 167, 0, 4, 3, 172]
abbrev dktX5_isSmall_0 : List UInt8 := dkwX5_isSmall_0 ++ []
theorem dksX5_isSmall_0 : cX5_isSmall.data.toList.drop 0 = dktX5_isSmall_0 := by decide +kernel
theorem dX5_isSmall_0 : decode cX5_isSmall 0 = .ok (.iload_n 1, 1) := dk_27 (dk_at dksX5_isSmall_0 0 rfl rfl)
theorem dX5_isSmall_1 : decode cX5_isSmall 1 = .ok (.bipush 97, 2) := dk_16 97 (dk_at dksX5_isSmall_0 1 rfl rfl)
theorem dX5_isSmall_3 : decode cX5_isSmall 3 = .ok (.if_icmp .lt 13, 3) := dk_161 0 13 (dk_at dksX5_isSmall_0 3 rfl rfl)
theorem dX5_isSmall_6 : decode cX5_isSmall 6 = .ok (.iload_n 1, 1) := dk_27 (dk_at dksX5_isSmall_0 6 rfl rfl)
theorem dX5_isSmall_7 : decode cX5_isSmall 7 = .ok (.bipush 122, 2) := dk_16 122 (dk_at dksX5_isSmall_0 7 rfl rfl)
theorem dX5_isSmall_9 : decode cX5_isSmall 9 = .ok (.if_icmp .gt 7, 3) := dk_163 0 7 (dk_at dksX5_isSmall_0 9 rfl rfl)
theorem dX5_isSmall_12 : decode cX5_isSmall 12 = .ok (.iconst 1, 1) := dk_4 (dk_at dksX5_isSmall_0 12 rfl rfl)
theorem dX5_isSmall_13 : decode cX5_isSmall 13 = .ok (.goto 4, 3) := dk_167 0 4 (dk_at dksX5_isSmall_0 13 rfl rfl)
theorem dX5_isSmall_16 : decode cX5_isSmall 16 = .ok (.iconst 0, 1) := dk_3 (dk_at dksX5_isSmall_0 16 rfl rfl)
theorem dX5_isSmall_17 : decode cX5_isSmall 17 = .ok (.ireturn, 1) := dk_172 (dk_at dksX5_isSmall_0 17 rfl rfl)
abbrev cX5_isDigit : ByteArray := prog_5_method_4_code
def yX5_isDigit : MethodName := ⟨RX5, "isDigit", "(I)Z"⟩
def dkwX5_isDigit_0 : List UInt8 := [27, 16, 48, 161, 0, 13, 27, 16, 57, 163, 0, 7, 4, 167, 0, 4, 3, 172]
abbrev dktX5_isDigit_0 : List UInt8 := dkwX5_isDigit_0 ++ []
theorem dksX5_isDigit_0 : cX5_isDigit.data.toList.drop 0 = dktX5_isDigit_0 := by decide +kernel
theorem dX5_isDigit_0 : decode cX5_isDigit 0 = .ok (.iload_n 1, 1) := dk_27 (dk_at dksX5_isDigit_0 0 rfl rfl)
theorem dX5_isDigit_1 : decode cX5_isDigit 1 = .ok (.bipush 48, 2) := dk_16 48 (dk_at dksX5_isDigit_0 1 rfl rfl)
theorem dX5_isDigit_3 : decode cX5_isDigit 3 = .ok (.if_icmp .lt 13, 3) := dk_161 0 13 (dk_at dksX5_isDigit_0 3 rfl rfl)
theorem dX5_isDigit_6 : decode cX5_isDigit 6 = .ok (.iload_n 1, 1) := dk_27 (dk_at dksX5_isDigit_0 6 rfl rfl)
theorem dX5_isDigit_7 : decode cX5_isDigit 7 = .ok (.bipush 57, 2) := dk_16 57 (dk_at dksX5_isDigit_0 7 rfl rfl)
theorem dX5_isDigit_9 : decode cX5_isDigit 9 = .ok (.if_icmp .gt 7, 3) := dk_163 0 7 (dk_at dksX5_isDigit_0 9 rfl rfl)
theorem dX5_isDigit_12 : decode cX5_isDigit 12 = .ok (.iconst 1, 1) := dk_4 (dk_at dksX5_isDigit_0 12 rfl rfl)
theorem dX5_isDigit_13 : decode cX5_isDigit 13 = .ok (.goto 4, 3) := dk_167 0 4 (dk_at dksX5_isDigit_0 13 rfl rfl)
theorem dX5_isDigit_16 : decode cX5_isDigit 16 = .ok (.iconst 0, 1) := dk_3 (dk_at dksX5_isDigit_0 16 rfl rfl)
theorem dX5_isDigit_17 : decode cX5_isDigit 17 = .ok (.ireturn, 1) := dk_172 (dk_at dksX5_isDigit_0 17 rfl rfl)
abbrev cX5_isEnd : ByteArray := prog_5_method_7_code
def yX5_isEnd : MethodName := ⟨RX5, "isEnd", "()Z"⟩
def dkwX5_isEnd_0 : List UInt8 := [42, 180, 0, 36, 154, 0, 7, 4, 167, 0, 4, 3, 172]
abbrev dktX5_isEnd_0 : List UInt8 := dkwX5_isEnd_0 ++ []
theorem dksX5_isEnd_0 : cX5_isEnd.data.toList.drop 0 = dktX5_isEnd_0 := by decide +kernel
theorem dX5_isEnd_0 : decode cX5_isEnd 0 = .ok (.aload_n 0, 1) := dk_42 (dk_at dksX5_isEnd_0 0 rfl rfl)
theorem dX5_isEnd_1 : decode cX5_isEnd 1 = .ok (.getfield 36, 3) := dk_180 0 36 (dk_at dksX5_isEnd_0 1 rfl rfl)
theorem dX5_isEnd_4 : decode cX5_isEnd 4 = .ok (.ifCond .ne 7, 3) := dk_154 0 7 (dk_at dksX5_isEnd_0 4 rfl rfl)
theorem dX5_isEnd_7 : decode cX5_isEnd 7 = .ok (.iconst 1, 1) := dk_4 (dk_at dksX5_isEnd_0 7 rfl rfl)
theorem dX5_isEnd_8 : decode cX5_isEnd 8 = .ok (.goto 4, 3) := dk_167 0 4 (dk_at dksX5_isEnd_0 8 rfl rfl)
theorem dX5_isEnd_11 : decode cX5_isEnd 11 = .ok (.iconst 0, 1) := dk_3 (dk_at dksX5_isEnd_0 11 rfl rfl)
theorem dX5_isEnd_12 : decode cX5_isEnd 12 = .ok (.ireturn, 1) := dk_172 (dk_at dksX5_isEnd_0 12 rfl rfl)
abbrev cX5_is : ByteArray := prog_5_method_10_code
def yX5_is : MethodName := ⟨RX5, "is", "(Ljava/lang/String;)Z"⟩
def dkwX5_is_2 : List UInt8 := [182, 0, 69, 159, 0, 5, 3, 172, 132, 2, 1, 167, 255, 225, 4, 172]
abbrev dktX5_is_2 : List UInt8 := dkwX5_is_2 ++ []
def dkwX5_is_1 : List UInt8 := [3, 172, 3, 61, 28, 43, 182, 0, 63, 162, 0, 29, 42, 42, 180, 0, 33, 28, 96, 182, 0, 29, 43, 28]
abbrev dktX5_is_1 : List UInt8 := dkwX5_is_1 ++ dktX5_is_2
def dkwX5_is_0 : List UInt8 := [42, 180, 0, 36, 4, 160, 0, 19, 42, 180, 0, 26, 42, 180, 0, 33, 100, 43, 182, 0, 63, 159, 0, 5]
abbrev dktX5_is_0 : List UInt8 := dkwX5_is_0 ++ dktX5_is_1
theorem dksX5_is_0 : cX5_is.data.toList.drop 0 = dktX5_is_0 := by decide +kernel
theorem dksX5_is_1 : cX5_is.data.toList.drop 24 = dktX5_is_1 := dk_seg dksX5_is_0 24 rfl rfl
theorem dksX5_is_2 : cX5_is.data.toList.drop 48 = dktX5_is_2 := dk_seg dksX5_is_1 24 rfl rfl
theorem dX5_is_0 : decode cX5_is 0 = .ok (.aload_n 0, 1) := dk_42 (dk_at dksX5_is_0 0 rfl rfl)
theorem dX5_is_1 : decode cX5_is 1 = .ok (.getfield 36, 3) := dk_180 0 36 (dk_at dksX5_is_0 1 rfl rfl)
theorem dX5_is_4 : decode cX5_is 4 = .ok (.iconst 1, 1) := dk_4 (dk_at dksX5_is_0 4 rfl rfl)
theorem dX5_is_5 : decode cX5_is 5 = .ok (.if_icmp .ne 19, 3) := dk_160 0 19 (dk_at dksX5_is_0 5 rfl rfl)
theorem dX5_is_8 : decode cX5_is 8 = .ok (.aload_n 0, 1) := dk_42 (dk_at dksX5_is_0 8 rfl rfl)
theorem dX5_is_9 : decode cX5_is 9 = .ok (.getfield 26, 3) := dk_180 0 26 (dk_at dksX5_is_0 9 rfl rfl)
theorem dX5_is_12 : decode cX5_is 12 = .ok (.aload_n 0, 1) := dk_42 (dk_at dksX5_is_0 12 rfl rfl)
theorem dX5_is_13 : decode cX5_is 13 = .ok (.getfield 33, 3) := dk_180 0 33 (dk_at dksX5_is_0 13 rfl rfl)
theorem dX5_is_16 : decode cX5_is 16 = .ok (.isub, 1) := dk_100 (dk_at dksX5_is_0 16 rfl rfl)
theorem dX5_is_17 : decode cX5_is 17 = .ok (.aload_n 1, 1) := dk_43 (dk_at dksX5_is_0 17 rfl rfl)
theorem dX5_is_18 : decode cX5_is 18 = .ok (.invokevirtual 63, 3) := dk_182 0 63 (dk_at dksX5_is_0 18 rfl rfl)
theorem dX5_is_21 : decode cX5_is 21 = .ok (.if_icmp .eq 5, 3) := dk_159 0 5 (dk_at dksX5_is_0 21 rfl rfl)
theorem dX5_is_24 : decode cX5_is 24 = .ok (.iconst 0, 1) := dk_3 (dk_at dksX5_is_1 0 rfl rfl)
theorem dX5_is_25 : decode cX5_is 25 = .ok (.ireturn, 1) := dk_172 (dk_at dksX5_is_1 1 rfl rfl)
theorem dX5_is_26 : decode cX5_is 26 = .ok (.iconst 0, 1) := dk_3 (dk_at dksX5_is_1 2 rfl rfl)
theorem dX5_is_27 : decode cX5_is 27 = .ok (.istore_n 2, 1) := dk_61 (dk_at dksX5_is_1 3 rfl rfl)
theorem dX5_is_28 : decode cX5_is 28 = .ok (.iload_n 2, 1) := dk_28 (dk_at dksX5_is_1 4 rfl rfl)
theorem dX5_is_29 : decode cX5_is 29 = .ok (.aload_n 1, 1) := dk_43 (dk_at dksX5_is_1 5 rfl rfl)
theorem dX5_is_30 : decode cX5_is 30 = .ok (.invokevirtual 63, 3) := dk_182 0 63 (dk_at dksX5_is_1 6 rfl rfl)
theorem dX5_is_33 : decode cX5_is 33 = .ok (.if_icmp .ge 29, 3) := dk_162 0 29 (dk_at dksX5_is_1 9 rfl rfl)
theorem dX5_is_36 : decode cX5_is 36 = .ok (.aload_n 0, 1) := dk_42 (dk_at dksX5_is_1 12 rfl rfl)
theorem dX5_is_37 : decode cX5_is 37 = .ok (.aload_n 0, 1) := dk_42 (dk_at dksX5_is_1 13 rfl rfl)
theorem dX5_is_38 : decode cX5_is 38 = .ok (.getfield 33, 3) := dk_180 0 33 (dk_at dksX5_is_1 14 rfl rfl)
theorem dX5_is_41 : decode cX5_is 41 = .ok (.iload_n 2, 1) := dk_28 (dk_at dksX5_is_1 17 rfl rfl)
theorem dX5_is_42 : decode cX5_is 42 = .ok (.iadd, 1) := dk_96 (dk_at dksX5_is_1 18 rfl rfl)
theorem dX5_is_43 : decode cX5_is 43 = .ok (.invokevirtual 29, 3) := dk_182 0 29 (dk_at dksX5_is_1 19 rfl rfl)
theorem dX5_is_46 : decode cX5_is 46 = .ok (.aload_n 1, 1) := dk_43 (dk_at dksX5_is_1 22 rfl rfl)
theorem dX5_is_47 : decode cX5_is 47 = .ok (.iload_n 2, 1) := dk_28 (dk_at dksX5_is_1 23 rfl rfl)
theorem dX5_is_48 : decode cX5_is 48 = .ok (.invokevirtual 69, 3) := dk_182 0 69 (dk_at dksX5_is_2 0 rfl rfl)
theorem dX5_is_51 : decode cX5_is 51 = .ok (.if_icmp .eq 5, 3) := dk_159 0 5 (dk_at dksX5_is_2 3 rfl rfl)
theorem dX5_is_54 : decode cX5_is 54 = .ok (.iconst 0, 1) := dk_3 (dk_at dksX5_is_2 6 rfl rfl)
theorem dX5_is_55 : decode cX5_is 55 = .ok (.ireturn, 1) := dk_172 (dk_at dksX5_is_2 7 rfl rfl)
theorem dX5_is_56 : decode cX5_is 56 = .ok (.iinc 2 1, 3) := dk_132 2 1 (dk_at dksX5_is_2 8 rfl rfl)
theorem dX5_is_59 : decode cX5_is 59 = .ok (.goto (-31), 3) := dk_167 255 225 (dk_at dksX5_is_2 11 rfl rfl)
theorem dX5_is_62 : decode cX5_is 62 = .ok (.iconst 1, 1) := dk_4 (dk_at dksX5_is_2 14 rfl rfl)
theorem dX5_is_63 : decode cX5_is 63 = .ok (.ireturn, 1) := dk_172 (dk_at dksX5_is_2 15 rfl rfl)
abbrev cX5_ask : ByteArray := prog_5_method_6_code
def yX5_ask : MethodName := ⟨RX5, "ask", "(ZI)V"⟩
def dkwX5_ask_0 : List UInt8 := [27, 154, 0, 19, 42, 180, 0, 3, 180, 0, 49, 28, 42, 180, 0, 33, 182, 0, 53, 191, 177]
abbrev dktX5_ask_0 : List UInt8 := dkwX5_ask_0 ++ []
theorem dksX5_ask_0 : cX5_ask.data.toList.drop 0 = dktX5_ask_0 := by decide +kernel
theorem dX5_ask_0 : decode cX5_ask 0 = .ok (.iload_n 1, 1) := dk_27 (dk_at dksX5_ask_0 0 rfl rfl)
theorem dX5_ask_1 : decode cX5_ask 1 = .ok (.ifCond .ne 19, 3) := dk_154 0 19 (dk_at dksX5_ask_0 1 rfl rfl)
theorem dX5_ask_4 : decode cX5_ask 4 = .ok (.aload_n 0, 1) := dk_42 (dk_at dksX5_ask_0 4 rfl rfl)
theorem dX5_ask_5 : decode cX5_ask 5 = .ok (.getfield 3, 3) := dk_180 0 3 (dk_at dksX5_ask_0 5 rfl rfl)
theorem dX5_ask_8 : decode cX5_ask 8 = .ok (.getfield 49, 3) := dk_180 0 49 (dk_at dksX5_ask_0 8 rfl rfl)
theorem dX5_ask_11 : decode cX5_ask 11 = .ok (.iload_n 2, 1) := dk_28 (dk_at dksX5_ask_0 11 rfl rfl)
theorem dX5_ask_12 : decode cX5_ask 12 = .ok (.aload_n 0, 1) := dk_42 (dk_at dksX5_ask_0 12 rfl rfl)
theorem dX5_ask_13 : decode cX5_ask 13 = .ok (.getfield 33, 3) := dk_180 0 33 (dk_at dksX5_ask_0 13 rfl rfl)
theorem dX5_ask_16 : decode cX5_ask 16 = .ok (.invokevirtual 53, 3) := dk_182 0 53 (dk_at dksX5_ask_0 16 rfl rfl)
theorem dX5_ask_19 : decode cX5_ask 19 = .ok (.athrow, 1) := dk_191 (dk_at dksX5_ask_0 19 rfl rfl)
theorem dX5_ask_20 : decode cX5_ask 20 = .ok (.return_, 1) := dk_177 (dk_at dksX5_ask_0 20 rfl rfl)
abbrev cX5_isWord : ByteArray := prog_5_method_8_code
def yX5_isWord : MethodName := ⟨RX5, "isWord", "()Z"⟩
def dkwX5_isWord_0 : List UInt8 := [42, 180, 0, 36, 4, 160, 0, 7, 4, 167, 0, 4, 3, 172]
abbrev dktX5_isWord_0 : List UInt8 := dkwX5_isWord_0 ++ []
theorem dksX5_isWord_0 : cX5_isWord.data.toList.drop 0 = dktX5_isWord_0 := by decide +kernel
theorem dX5_isWord_0 : decode cX5_isWord 0 = .ok (.aload_n 0, 1) := dk_42 (dk_at dksX5_isWord_0 0 rfl rfl)
theorem dX5_isWord_1 : decode cX5_isWord 1 = .ok (.getfield 36, 3) := dk_180 0 36 (dk_at dksX5_isWord_0 1 rfl rfl)
theorem dX5_isWord_4 : decode cX5_isWord 4 = .ok (.iconst 1, 1) := dk_4 (dk_at dksX5_isWord_0 4 rfl rfl)
theorem dX5_isWord_5 : decode cX5_isWord 5 = .ok (.if_icmp .ne 7, 3) := dk_160 0 7 (dk_at dksX5_isWord_0 5 rfl rfl)
theorem dX5_isWord_8 : decode cX5_isWord 8 = .ok (.iconst 1, 1) := dk_4 (dk_at dksX5_isWord_0 8 rfl rfl)
theorem dX5_isWord_9 : decode cX5_isWord 9 = .ok (.goto 4, 3) := dk_167 0 4 (dk_at dksX5_isWord_0 9 rfl rfl)
theorem dX5_isWord_12 : decode cX5_isWord 12 = .ok (.iconst 0, 1) := dk_3 (dk_at dksX5_isWord_0 12 rfl rfl)
theorem dX5_isWord_13 : decode cX5_isWord 13 = .ok (.ireturn, 1) := dk_172 (dk_at dksX5_isWord_0 13 rfl rfl)
abbrev cX5_name : ByteArray := prog_5_method_9_code
def yX5_name : MethodName := ⟨RX5, "name", "()J"⟩
def dkwX5_name_1 : List UInt8 := [182, 0, 29, 133, 97, 20, 0, 61, 101, 10, 97, 64, 132, 3, 1, 167, 255, 226, 31, 173]
abbrev dktX5_name_1 : List UInt8 := dkwX5_name_1 ++ []
def dkwX5_name_0 : List UInt8 := [9, 64, 42, 180, 0, 33, 62, 29, 42, 180, 0, 26, 162, 0, 28, 20, 0, 59, 31, 105, 42, 29]
abbrev dktX5_name_0 : List UInt8 := dkwX5_name_0 ++ dktX5_name_1
theorem dksX5_name_0 : cX5_name.data.toList.drop 0 = dktX5_name_0 := by decide +kernel
theorem dksX5_name_1 : cX5_name.data.toList.drop 22 = dktX5_name_1 := dk_seg dksX5_name_0 22 rfl rfl
theorem dX5_name_0 : decode cX5_name 0 = .ok (.lconst 0, 1) := dk_9 (dk_at dksX5_name_0 0 rfl rfl)
theorem dX5_name_1 : decode cX5_name 1 = .ok (.lstore_n 1, 1) := dk_64 (dk_at dksX5_name_0 1 rfl rfl)
theorem dX5_name_2 : decode cX5_name 2 = .ok (.aload_n 0, 1) := dk_42 (dk_at dksX5_name_0 2 rfl rfl)
theorem dX5_name_3 : decode cX5_name 3 = .ok (.getfield 33, 3) := dk_180 0 33 (dk_at dksX5_name_0 3 rfl rfl)
theorem dX5_name_6 : decode cX5_name 6 = .ok (.istore_n 3, 1) := dk_62 (dk_at dksX5_name_0 6 rfl rfl)
theorem dX5_name_7 : decode cX5_name 7 = .ok (.iload_n 3, 1) := dk_29 (dk_at dksX5_name_0 7 rfl rfl)
theorem dX5_name_8 : decode cX5_name 8 = .ok (.aload_n 0, 1) := dk_42 (dk_at dksX5_name_0 8 rfl rfl)
theorem dX5_name_9 : decode cX5_name 9 = .ok (.getfield 26, 3) := dk_180 0 26 (dk_at dksX5_name_0 9 rfl rfl)
theorem dX5_name_12 : decode cX5_name 12 = .ok (.if_icmp .ge 28, 3) := dk_162 0 28 (dk_at dksX5_name_0 12 rfl rfl)
theorem dX5_name_15 : decode cX5_name 15 = .ok (.ldc2_w 59, 3) := dk_20 0 59 (dk_at dksX5_name_0 15 rfl rfl)
theorem dX5_name_18 : decode cX5_name 18 = .ok (.lload_n 1, 1) := dk_31 (dk_at dksX5_name_0 18 rfl rfl)
theorem dX5_name_19 : decode cX5_name 19 = .ok (.lmul, 1) := dk_105 (dk_at dksX5_name_0 19 rfl rfl)
theorem dX5_name_20 : decode cX5_name 20 = .ok (.aload_n 0, 1) := dk_42 (dk_at dksX5_name_0 20 rfl rfl)
theorem dX5_name_21 : decode cX5_name 21 = .ok (.iload_n 3, 1) := dk_29 (dk_at dksX5_name_0 21 rfl rfl)
theorem dX5_name_22 : decode cX5_name 22 = .ok (.invokevirtual 29, 3) := dk_182 0 29 (dk_at dksX5_name_1 0 rfl rfl)
theorem dX5_name_25 : decode cX5_name 25 = .ok (.i2l, 1) := dk_133 (dk_at dksX5_name_1 3 rfl rfl)
theorem dX5_name_26 : decode cX5_name 26 = .ok (.ladd, 1) := dk_97 (dk_at dksX5_name_1 4 rfl rfl)
theorem dX5_name_27 : decode cX5_name 27 = .ok (.ldc2_w 61, 3) := dk_20 0 61 (dk_at dksX5_name_1 5 rfl rfl)
theorem dX5_name_30 : decode cX5_name 30 = .ok (.lsub, 1) := dk_101 (dk_at dksX5_name_1 8 rfl rfl)
theorem dX5_name_31 : decode cX5_name 31 = .ok (.lconst 1, 1) := dk_10 (dk_at dksX5_name_1 9 rfl rfl)
theorem dX5_name_32 : decode cX5_name 32 = .ok (.ladd, 1) := dk_97 (dk_at dksX5_name_1 10 rfl rfl)
theorem dX5_name_33 : decode cX5_name 33 = .ok (.lstore_n 1, 1) := dk_64 (dk_at dksX5_name_1 11 rfl rfl)
theorem dX5_name_34 : decode cX5_name 34 = .ok (.iinc 3 1, 3) := dk_132 3 1 (dk_at dksX5_name_1 12 rfl rfl)
theorem dX5_name_37 : decode cX5_name 37 = .ok (.goto (-30), 3) := dk_167 255 226 (dk_at dksX5_name_1 15 rfl rfl)
theorem dX5_name_40 : decode cX5_name 40 = .ok (.lload_n 1, 1) := dk_31 (dk_at dksX5_name_1 18 rfl rfl)
theorem dX5_name_41 : decode cX5_name 41 = .ok (.lreturn, 1) := dk_173 (dk_at dksX5_name_1 19 rfl rfl)
abbrev cX5_within : ByteArray := prog_5_method_12_code
def yX5_within : MethodName := ⟨RX5, "within", "(II)I"⟩
def dkwX5_within_1 : List UInt8 := [28, 184, 0, 77, 5, 182, 0, 73, 42, 180, 0, 46, 172]
abbrev dktX5_within_1 : List UInt8 := dkwX5_within_1 ++ []
def dkwX5_within_0 : List UInt8 := [42, 42, 180, 0, 36, 5, 160, 0, 7, 4, 167, 0, 4, 3, 4, 182, 0, 73, 42, 42, 180, 0, 46, 27]
abbrev dktX5_within_0 : List UInt8 := dkwX5_within_0 ++ dktX5_within_1
theorem dksX5_within_0 : cX5_within.data.toList.drop 0 = dktX5_within_0 := by decide +kernel
theorem dksX5_within_1 : cX5_within.data.toList.drop 24 = dktX5_within_1 := dk_seg dksX5_within_0 24 rfl rfl
theorem dX5_within_0 : decode cX5_within 0 = .ok (.aload_n 0, 1) := dk_42 (dk_at dksX5_within_0 0 rfl rfl)
theorem dX5_within_1 : decode cX5_within 1 = .ok (.aload_n 0, 1) := dk_42 (dk_at dksX5_within_0 1 rfl rfl)
theorem dX5_within_2 : decode cX5_within 2 = .ok (.getfield 36, 3) := dk_180 0 36 (dk_at dksX5_within_0 2 rfl rfl)
theorem dX5_within_5 : decode cX5_within 5 = .ok (.iconst 2, 1) := dk_5 (dk_at dksX5_within_0 5 rfl rfl)
theorem dX5_within_6 : decode cX5_within 6 = .ok (.if_icmp .ne 7, 3) := dk_160 0 7 (dk_at dksX5_within_0 6 rfl rfl)
theorem dX5_within_9 : decode cX5_within 9 = .ok (.iconst 1, 1) := dk_4 (dk_at dksX5_within_0 9 rfl rfl)
theorem dX5_within_10 : decode cX5_within 10 = .ok (.goto 4, 3) := dk_167 0 4 (dk_at dksX5_within_0 10 rfl rfl)
theorem dX5_within_13 : decode cX5_within 13 = .ok (.iconst 0, 1) := dk_3 (dk_at dksX5_within_0 13 rfl rfl)
theorem dX5_within_14 : decode cX5_within 14 = .ok (.iconst 1, 1) := dk_4 (dk_at dksX5_within_0 14 rfl rfl)
theorem dX5_within_15 : decode cX5_within 15 = .ok (.invokevirtual 73, 3) := dk_182 0 73 (dk_at dksX5_within_0 15 rfl rfl)
theorem dX5_within_18 : decode cX5_within 18 = .ok (.aload_n 0, 1) := dk_42 (dk_at dksX5_within_0 18 rfl rfl)
theorem dX5_within_19 : decode cX5_within 19 = .ok (.aload_n 0, 1) := dk_42 (dk_at dksX5_within_0 19 rfl rfl)
theorem dX5_within_20 : decode cX5_within 20 = .ok (.getfield 46, 3) := dk_180 0 46 (dk_at dksX5_within_0 20 rfl rfl)
theorem dX5_within_23 : decode cX5_within 23 = .ok (.iload_n 1, 1) := dk_27 (dk_at dksX5_within_0 23 rfl rfl)
theorem dX5_within_24 : decode cX5_within 24 = .ok (.iload_n 2, 1) := dk_28 (dk_at dksX5_within_1 0 rfl rfl)
theorem dX5_within_25 : decode cX5_within 25 = .ok (.invokestatic 77, 3) := dk_184 0 77 (dk_at dksX5_within_1 1 rfl rfl)
theorem dX5_within_28 : decode cX5_within 28 = .ok (.iconst 2, 1) := dk_5 (dk_at dksX5_within_1 4 rfl rfl)
theorem dX5_within_29 : decode cX5_within 29 = .ok (.invokevirtual 73, 3) := dk_182 0 73 (dk_at dksX5_within_1 5 rfl rfl)
theorem dX5_within_32 : decode cX5_within 32 = .ok (.aload_n 0, 1) := dk_42 (dk_at dksX5_within_1 8 rfl rfl)
theorem dX5_within_33 : decode cX5_within 33 = .ok (.getfield 46, 3) := dk_180 0 46 (dk_at dksX5_within_1 9 rfl rfl)
theorem dX5_within_36 : decode cX5_within 36 = .ok (.ireturn, 1) := dk_172 (dk_at dksX5_within_1 12 rfl rfl)
abbrev cX5_number : ByteArray := prog_5_method_13_code
def yX5_number : MethodName := ⟨RX5, "number", "(II)I"⟩
def dkwX5_number_0 : List UInt8 := [42, 27, 28, 182, 0, 81, 62, 42, 182, 0, 19, 29, 172]
abbrev dktX5_number_0 : List UInt8 := dkwX5_number_0 ++ []
theorem dksX5_number_0 : cX5_number.data.toList.drop 0 = dktX5_number_0 := by decide +kernel
theorem dX5_number_0 : decode cX5_number 0 = .ok (.aload_n 0, 1) := dk_42 (dk_at dksX5_number_0 0 rfl rfl)
theorem dX5_number_1 : decode cX5_number 1 = .ok (.iload_n 1, 1) := dk_27 (dk_at dksX5_number_0 1 rfl rfl)
theorem dX5_number_2 : decode cX5_number 2 = .ok (.iload_n 2, 1) := dk_28 (dk_at dksX5_number_0 2 rfl rfl)
theorem dX5_number_3 : decode cX5_number 3 = .ok (.invokevirtual 81, 3) := dk_182 0 81 (dk_at dksX5_number_0 3 rfl rfl)
theorem dX5_number_6 : decode cX5_number 6 = .ok (.istore_n 3, 1) := dk_62 (dk_at dksX5_number_0 6 rfl rfl)
theorem dX5_number_7 : decode cX5_number 7 = .ok (.aload_n 0, 1) := dk_42 (dk_at dksX5_number_0 7 rfl rfl)
theorem dX5_number_8 : decode cX5_number 8 = .ok (.invokevirtual 19, 3) := dk_182 0 19 (dk_at dksX5_number_0 8 rfl rfl)
theorem dX5_number_11 : decode cX5_number 11 = .ok (.iload_n 3, 1) := dk_29 (dk_at dksX5_number_0 11 rfl rfl)
theorem dX5_number_12 : decode cX5_number 12 = .ok (.ireturn, 1) := dk_172 (dk_at dksX5_number_0 12 rfl rfl)
abbrev cX5_semicolon : ByteArray := prog_5_method_11_code
def yX5_semicolon : MethodName := ⟨RX5, "semicolon", "()V"⟩
def dkwX5_semicolon_0 : List UInt8 := [42, 42, 180, 0, 36, 6, 160, 0, 7, 4, 167, 0, 4, 3, 4, 182, 0, 73, 42, 182, 0, 19, 177]
abbrev dktX5_semicolon_0 : List UInt8 := dkwX5_semicolon_0 ++ []
theorem dksX5_semicolon_0 : cX5_semicolon.data.toList.drop 0 = dktX5_semicolon_0 := by decide +kernel
theorem dX5_semicolon_0 : decode cX5_semicolon 0 = .ok (.aload_n 0, 1) := dk_42 (dk_at dksX5_semicolon_0 0 rfl rfl)
theorem dX5_semicolon_1 : decode cX5_semicolon 1 = .ok (.aload_n 0, 1) := dk_42 (dk_at dksX5_semicolon_0 1 rfl rfl)
theorem dX5_semicolon_2 : decode cX5_semicolon 2 = .ok (.getfield 36, 3) := dk_180 0 36 (dk_at dksX5_semicolon_0 2 rfl rfl)
theorem dX5_semicolon_5 : decode cX5_semicolon 5 = .ok (.iconst 3, 1) := dk_6 (dk_at dksX5_semicolon_0 5 rfl rfl)
theorem dX5_semicolon_6 : decode cX5_semicolon 6 = .ok (.if_icmp .ne 7, 3) := dk_160 0 7 (dk_at dksX5_semicolon_0 6 rfl rfl)
theorem dX5_semicolon_9 : decode cX5_semicolon 9 = .ok (.iconst 1, 1) := dk_4 (dk_at dksX5_semicolon_0 9 rfl rfl)
theorem dX5_semicolon_10 : decode cX5_semicolon 10 = .ok (.goto 4, 3) := dk_167 0 4 (dk_at dksX5_semicolon_0 10 rfl rfl)
theorem dX5_semicolon_13 : decode cX5_semicolon 13 = .ok (.iconst 0, 1) := dk_3 (dk_at dksX5_semicolon_0 13 rfl rfl)
theorem dX5_semicolon_14 : decode cX5_semicolon 14 = .ok (.iconst 1, 1) := dk_4 (dk_at dksX5_semicolon_0 14 rfl rfl)
theorem dX5_semicolon_15 : decode cX5_semicolon 15 = .ok (.invokevirtual 73, 3) := dk_182 0 73 (dk_at dksX5_semicolon_0 15 rfl rfl)
theorem dX5_semicolon_18 : decode cX5_semicolon 18 = .ok (.aload_n 0, 1) := dk_42 (dk_at dksX5_semicolon_0 18 rfl rfl)
theorem dX5_semicolon_19 : decode cX5_semicolon 19 = .ok (.invokevirtual 19, 3) := dk_182 0 19 (dk_at dksX5_semicolon_0 19 rfl rfl)
theorem dX5_semicolon_22 : decode cX5_semicolon 22 = .ok (.return_, 1) := dk_177 (dk_at dksX5_semicolon_0 22 rfl rfl)
theorem q81 : (Jvm.Cond.initialized "SlimeNet$Reader") ∈ lw_all := lw_g (lw_at lw_m1 12 rfl) rfl
theorem q323 : (Jvm.Cond.fieldLinkNest "SlimeNet$Reader" (49 : Nat) "SlimeNet" "wrong" "LSlimeNet$Wrong;" "SlimeNet") ∈ lw_tbl := lw_at lw_m2 14 rfl
theorem q324 : (Jvm.Cond.fieldLinkNest "SlimeNet$Reader" (22 : Nat) "SlimeNet" "tape" "[B" "SlimeNet") ∈ lw_tbl := lw_at lw_m2 15 rfl
theorem q441 : (Jvm.Cond.instanceMethod ({ cls := "SlimeNet$Reader", name := "<init>", desc := "(LSlimeNet;I)V" } : Jvm.MethodName)) ∈ lw_all := lw_g (lw_at lw_m2 132 rfl) rfl
theorem q442 : (Jvm.Cond.code ({ cls := "SlimeNet$Reader", name := "<init>", desc := "(LSlimeNet;I)V" } : Jvm.MethodName) prog_5_method_1_code (3 : Nat) (Option.none : Option Jvm.ClassFile.FieldType)) ∈ lw_all := lw_g (lw_at lw_m2 133 rfl) rfl
theorem q443 : (Jvm.Cond.methodLink "SlimeNet$Reader" (9 : Nat) ({ cls := "java/lang/Object", name := "<init>", desc := "()V" } : Jvm.MethodName)) ∈ lw_all := lw_g (lw_at lw_m2 134 rfl) rfl
theorem q444 : (Jvm.Cond.methodLink "SlimeNet$Reader" (19 : Nat) ({ cls := "SlimeNet$Reader", name := "goOn", desc := "()V" } : Jvm.MethodName)) ∈ lw_all := lw_g (lw_at lw_m2 135 rfl) rfl
theorem q445 : (Jvm.Cond.instanceMethod ({ cls := "SlimeNet$Reader", name := "goOn", desc := "()V" } : Jvm.MethodName)) ∈ lw_all := lw_g (lw_at lw_m2 136 rfl) rfl
theorem q446 : (Jvm.Cond.sameMethod "SlimeNet$Reader" "SlimeNet$Reader" "goOn" "()V") ∈ lw_all := lw_g (lw_at lw_m2 137 rfl) rfl
theorem q448 : (Jvm.Cond.code ({ cls := "SlimeNet$Reader", name := "goOn", desc := "()V" } : Jvm.MethodName) prog_5_method_5_code (3 : Nat) (Option.none : Option Jvm.ClassFile.FieldType)) ∈ lw_all := lw_g (lw_at lw_m2 139 rfl) rfl
theorem q449 : (Jvm.Cond.methodLink "SlimeNet$Reader" (29 : Nat) ({ cls := "SlimeNet$Reader", name := "see", desc := "(I)I" } : Jvm.MethodName)) ∈ lw_all := lw_g (lw_at lw_m2 140 rfl) rfl
theorem q450 : (Jvm.Cond.privateMethod ({ cls := "SlimeNet$Reader", name := "see", desc := "(I)I" } : Jvm.MethodName)) ∈ lw_tbl := lw_at lw_m2 141 rfl
theorem q451 : (Jvm.Cond.instanceMethod ({ cls := "SlimeNet$Reader", name := "see", desc := "(I)I" } : Jvm.MethodName)) ∈ lw_all := lw_g (lw_at lw_m2 142 rfl) rfl
theorem q452 : (Jvm.Cond.instantiable "SlimeNet$Reader" (6 : Nat)) ∈ lw_all := lw_g (lw_at lw_m2 143 rfl) rfl
theorem q453 : (Jvm.Cond.code ({ cls := "SlimeNet$Reader", name := "see", desc := "(I)I" } : Jvm.MethodName) prog_5_method_2_code (2 : Nat) (Option.some Jvm.ClassFile.FieldType.int)) ∈ lw_all := lw_g (lw_at lw_m2 144 rfl) rfl
theorem q454 : (Jvm.Cond.methodLink "SlimeNet$Reader" (39 : Nat) ({ cls := "SlimeNet$Reader", name := "isSmall", desc := "(I)Z" } : Jvm.MethodName)) ∈ lw_all := lw_g (lw_at lw_m2 145 rfl) rfl
theorem q455 : (Jvm.Cond.privateMethod ({ cls := "SlimeNet$Reader", name := "isSmall", desc := "(I)Z" } : Jvm.MethodName)) ∈ lw_tbl := lw_at lw_m2 146 rfl
theorem q456 : (Jvm.Cond.instanceMethod ({ cls := "SlimeNet$Reader", name := "isSmall", desc := "(I)Z" } : Jvm.MethodName)) ∈ lw_all := lw_g (lw_at lw_m2 147 rfl) rfl
theorem q457 : (Jvm.Cond.code ({ cls := "SlimeNet$Reader", name := "isSmall", desc := "(I)Z" } : Jvm.MethodName) prog_5_method_3_code (2 : Nat) (Option.some Jvm.ClassFile.FieldType.boolean)) ∈ lw_all := lw_g (lw_at lw_m2 148 rfl) rfl
theorem q458 : (Jvm.Cond.methodLink "SlimeNet$Reader" (43 : Nat) ({ cls := "SlimeNet$Reader", name := "isDigit", desc := "(I)Z" } : Jvm.MethodName)) ∈ lw_all := lw_g (lw_at lw_m2 149 rfl) rfl
theorem q459 : (Jvm.Cond.privateMethod ({ cls := "SlimeNet$Reader", name := "isDigit", desc := "(I)Z" } : Jvm.MethodName)) ∈ lw_tbl := lw_at lw_m2 150 rfl
theorem q460 : (Jvm.Cond.instanceMethod ({ cls := "SlimeNet$Reader", name := "isDigit", desc := "(I)Z" } : Jvm.MethodName)) ∈ lw_all := lw_g (lw_at lw_m2 151 rfl) rfl
theorem q461 : (Jvm.Cond.code ({ cls := "SlimeNet$Reader", name := "isDigit", desc := "(I)Z" } : Jvm.MethodName) prog_5_method_4_code (2 : Nat) (Option.some Jvm.ClassFile.FieldType.boolean)) ∈ lw_all := lw_g (lw_at lw_m2 152 rfl) rfl
theorem q467 : (Jvm.Cond.fieldLink "SlimeNet$Reader" (15 : Nat) "SlimeNet$Reader" "size" "I") ∈ lw_all := lw_g (lw_at lw_m2 158 rfl) rfl
theorem q468 : (Jvm.Cond.fieldLink "SlimeNet$Reader" (36 : Nat) "SlimeNet$Reader" "sort" "I") ∈ lw_all := lw_g (lw_at lw_m2 159 rfl) rfl
theorem q469 : (Jvm.Cond.fieldLink "SlimeNet$Reader" (33 : Nat) "SlimeNet$Reader" "at" "I") ∈ lw_all := lw_g (lw_at lw_m2 160 rfl) rfl
theorem q470 : (Jvm.Cond.fieldLink "SlimeNet$Reader" (26 : Nat) "SlimeNet$Reader" "to" "I") ∈ lw_all := lw_g (lw_at lw_m2 161 rfl) rfl
theorem q471 : (Jvm.Cond.fieldLink "SlimeNet$Reader" (46 : Nat) "SlimeNet$Reader" "value" "I") ∈ lw_all := lw_g (lw_at lw_m2 162 rfl) rfl
theorem q472 : (Jvm.Cond.fieldLink "SlimeNet$Reader" (3 : Nat) "SlimeNet$Reader" "this$0" "LSlimeNet;") ∈ lw_all := lw_g (lw_at lw_m2 163 rfl) rfl
theorem q480 : (Jvm.Cond.soleField "SlimeNet$Reader" "size") ∈ lw_all := lw_g (lw_at lw_m2 171 rfl) rfl
theorem q482 : (Jvm.Cond.soleField "SlimeNet$Reader" "sort") ∈ lw_all := lw_g (lw_at lw_m2 173 rfl) rfl
theorem q484 : (Jvm.Cond.soleField "SlimeNet$Reader" "at") ∈ lw_all := lw_g (lw_at lw_m2 175 rfl) rfl
theorem q486 : (Jvm.Cond.soleField "SlimeNet$Reader" "to") ∈ lw_all := lw_g (lw_at lw_m2 177 rfl) rfl
theorem q488 : (Jvm.Cond.soleField "SlimeNet$Reader" "value") ∈ lw_all := lw_g (lw_at lw_m2 179 rfl) rfl
theorem q490 : (Jvm.Cond.soleField "SlimeNet$Reader" "this$0") ∈ lw_all := lw_g (lw_at lw_m2 181 rfl) rfl
theorem q498 : (Jvm.Cond.declares ({ cls := "SlimeNet$Reader", name := "isEnd", desc := "()Z" } : Jvm.MethodName)) ∈ lw_tbl := lw_at lw_m2 189 rfl
theorem q500 : (Jvm.Cond.instanceMethod ({ cls := "SlimeNet$Reader", name := "isEnd", desc := "()Z" } : Jvm.MethodName)) ∈ lw_all := lw_g (lw_at lw_m2 191 rfl) rfl
theorem q501 : (Jvm.Cond.code ({ cls := "SlimeNet$Reader", name := "isEnd", desc := "()Z" } : Jvm.MethodName) prog_5_method_7_code (1 : Nat) (Option.some Jvm.ClassFile.FieldType.boolean)) ∈ lw_all := lw_g (lw_at lw_m2 192 rfl) rfl
theorem q509 : (Jvm.Cond.declares ({ cls := "SlimeNet$Reader", name := "is", desc := "(Ljava/lang/String;)Z" } : Jvm.MethodName)) ∈ lw_tbl := lw_at lw_m2 200 rfl
theorem q511 : (Jvm.Cond.instanceMethod ({ cls := "SlimeNet$Reader", name := "is", desc := "(Ljava/lang/String;)Z" } : Jvm.MethodName)) ∈ lw_all := lw_g (lw_at lw_m2 202 rfl) rfl
theorem q512 : (Jvm.Cond.code ({ cls := "SlimeNet$Reader", name := "is", desc := "(Ljava/lang/String;)Z" } : Jvm.MethodName) prog_5_method_10_code (3 : Nat) (Option.some Jvm.ClassFile.FieldType.boolean)) ∈ lw_all := lw_g (lw_at lw_m2 203 rfl) rfl
theorem q513 : (Jvm.Cond.methodLink "SlimeNet$Reader" (63 : Nat) ({ cls := "java/lang/String", name := "length", desc := "()I" } : Jvm.MethodName)) ∈ lw_all := lw_g (lw_at lw_m2 204 rfl) rfl
theorem q523 : (Jvm.Cond.methodLink "SlimeNet$Reader" (69 : Nat) ({ cls := "java/lang/String", name := "charAt", desc := "(I)C" } : Jvm.MethodName)) ∈ lw_all := lw_g (lw_at lw_m2 214 rfl) rfl
theorem q567 : (Jvm.Cond.declares ({ cls := "SlimeNet$Reader", name := "ask", desc := "(ZI)V" } : Jvm.MethodName)) ∈ lw_tbl := lw_at lw_m3 18 rfl
theorem q569 : (Jvm.Cond.instanceMethod ({ cls := "SlimeNet$Reader", name := "ask", desc := "(ZI)V" } : Jvm.MethodName)) ∈ lw_all := lw_g (lw_at lw_m3 20 rfl) rfl
theorem q570 : (Jvm.Cond.code ({ cls := "SlimeNet$Reader", name := "ask", desc := "(ZI)V" } : Jvm.MethodName) prog_5_method_6_code (3 : Nat) (Option.none : Option Jvm.ClassFile.FieldType)) ∈ lw_all := lw_g (lw_at lw_m3 21 rfl) rfl
theorem q571 : (Jvm.Cond.methodLink "SlimeNet$Reader" (53 : Nat) ({ cls := "SlimeNet$Wrong", name := "by", desc := "(II)LSlimeNet$Wrong;" } : Jvm.MethodName)) ∈ lw_all := lw_g (lw_at lw_m3 22 rfl) rfl
theorem q577 : (Jvm.Cond.declares ({ cls := "SlimeNet$Reader", name := "goOn", desc := "()V" } : Jvm.MethodName)) ∈ lw_tbl := lw_at lw_m3 28 rfl
theorem q581 : (Jvm.Cond.declares ({ cls := "SlimeNet$Reader", name := "isWord", desc := "()Z" } : Jvm.MethodName)) ∈ lw_tbl := lw_at lw_m3 32 rfl
theorem q583 : (Jvm.Cond.instanceMethod ({ cls := "SlimeNet$Reader", name := "isWord", desc := "()Z" } : Jvm.MethodName)) ∈ lw_all := lw_g (lw_at lw_m3 34 rfl) rfl
theorem q584 : (Jvm.Cond.code ({ cls := "SlimeNet$Reader", name := "isWord", desc := "()Z" } : Jvm.MethodName) prog_5_method_8_code (1 : Nat) (Option.some Jvm.ClassFile.FieldType.boolean)) ∈ lw_all := lw_g (lw_at lw_m3 35 rfl) rfl
theorem q587 : (Jvm.Cond.declares ({ cls := "SlimeNet$Reader", name := "name", desc := "()J" } : Jvm.MethodName)) ∈ lw_tbl := lw_at lw_m3 38 rfl
theorem q589 : (Jvm.Cond.instanceMethod ({ cls := "SlimeNet$Reader", name := "name", desc := "()J" } : Jvm.MethodName)) ∈ lw_all := lw_g (lw_at lw_m3 40 rfl) rfl
theorem q590 : (Jvm.Cond.code ({ cls := "SlimeNet$Reader", name := "name", desc := "()J" } : Jvm.MethodName) prog_5_method_9_code (4 : Nat) (Option.some Jvm.ClassFile.FieldType.long)) ∈ lw_all := lw_g (lw_at lw_m3 41 rfl) rfl
theorem q591 : (Jvm.Cond.constantLong "SlimeNet$Reader" (59 : Nat) (27 : Int64)) ∈ lw_all := lw_g (lw_at lw_m3 42 rfl) rfl
theorem q592 : (Jvm.Cond.constantLong "SlimeNet$Reader" (61 : Nat) (97 : Int64)) ∈ lw_all := lw_g (lw_at lw_m3 43 rfl) rfl
theorem q627 : (Jvm.Cond.declares ({ cls := "SlimeNet$Reader", name := "within", desc := "(II)I" } : Jvm.MethodName)) ∈ lw_tbl := lw_at lw_m3 78 rfl
theorem q629 : (Jvm.Cond.instanceMethod ({ cls := "SlimeNet$Reader", name := "within", desc := "(II)I" } : Jvm.MethodName)) ∈ lw_all := lw_g (lw_at lw_m3 80 rfl) rfl
theorem q630 : (Jvm.Cond.code ({ cls := "SlimeNet$Reader", name := "within", desc := "(II)I" } : Jvm.MethodName) prog_5_method_12_code (3 : Nat) (Option.some Jvm.ClassFile.FieldType.int)) ∈ lw_all := lw_g (lw_at lw_m3 81 rfl) rfl
theorem q631 : (Jvm.Cond.methodLink "SlimeNet$Reader" (73 : Nat) ({ cls := "SlimeNet$Reader", name := "ask", desc := "(ZI)V" } : Jvm.MethodName)) ∈ lw_all := lw_g (lw_at lw_m3 82 rfl) rfl
theorem q632 : (Jvm.Cond.methodLinkNest "SlimeNet$Reader" (77 : Nat) ({ cls := "SlimeNet", name := "in", desc := "(III)Z" } : Jvm.MethodName) "SlimeNet") ∈ lw_tbl := lw_at lw_m3 83 rfl
theorem q741 : (Jvm.Cond.declares ({ cls := "SlimeNet$Reader", name := "number", desc := "(II)I" } : Jvm.MethodName)) ∈ lw_tbl := lw_at lw_m3 192 rfl
theorem q743 : (Jvm.Cond.instanceMethod ({ cls := "SlimeNet$Reader", name := "number", desc := "(II)I" } : Jvm.MethodName)) ∈ lw_all := lw_g (lw_at lw_m3 194 rfl) rfl
theorem q744 : (Jvm.Cond.code ({ cls := "SlimeNet$Reader", name := "number", desc := "(II)I" } : Jvm.MethodName) prog_5_method_13_code (4 : Nat) (Option.some Jvm.ClassFile.FieldType.int)) ∈ lw_all := lw_g (lw_at lw_m3 195 rfl) rfl
theorem q745 : (Jvm.Cond.methodLink "SlimeNet$Reader" (81 : Nat) ({ cls := "SlimeNet$Reader", name := "within", desc := "(II)I" } : Jvm.MethodName)) ∈ lw_all := lw_g (lw_at lw_m3 196 rfl) rfl
theorem q750 : (Jvm.Cond.declares ({ cls := "SlimeNet$Reader", name := "semicolon", desc := "()V" } : Jvm.MethodName)) ∈ lw_tbl := lw_at lw_m3 201 rfl
theorem q752 : (Jvm.Cond.instanceMethod ({ cls := "SlimeNet$Reader", name := "semicolon", desc := "()V" } : Jvm.MethodName)) ∈ lw_all := lw_g (lw_at lw_m3 203 rfl) rfl
theorem q753 : (Jvm.Cond.code ({ cls := "SlimeNet$Reader", name := "semicolon", desc := "()V" } : Jvm.MethodName) prog_5_method_11_code (1 : Nat) (Option.none : Option Jvm.ClassFile.FieldType)) ∈ lw_all := lw_g (lw_at lw_m3 204 rfl) rfl
theorem q1583 : (Jvm.Cond.sameMethod "SlimeNet$Reader" "SlimeNet$Reader" "see" "(I)I") ∈ lw_all := lw_g (lw_at lw_m7 74 rfl) rfl
theorem q1584 : (Jvm.Cond.sameMethod "SlimeNet$Reader" "SlimeNet$Reader" "isSmall" "(I)Z") ∈ lw_all := lw_g (lw_at lw_m7 75 rfl) rfl
theorem q1585 : (Jvm.Cond.sameMethod "SlimeNet$Reader" "SlimeNet$Reader" "isDigit" "(I)Z") ∈ lw_all := lw_g (lw_at lw_m7 76 rfl) rfl
theorem q1586 : (Jvm.Cond.sameMethod "SlimeNet$Reader" "SlimeNet$Reader" "ask" "(ZI)V") ∈ lw_all := lw_g (lw_at lw_m7 77 rfl) rfl
theorem q1588 : (Jvm.Cond.sameMethod "SlimeNet$Reader" "SlimeNet$Reader" "within" "(II)I") ∈ lw_all := lw_g (lw_at lw_m7 79 rfl) rfl
theorem q1600 : (Jvm.Cond.castable "SlimeNet$Reader" "java/lang/Object") ∈ lw_tbl := lw_at lw_m7 91 rfl
/-! SlimeNet$PlateReader -/
set_option maxRecDepth 100000
def RX6 : String := "SlimeNet$PlateReader"
def TX6 : u_T := fun k => match k with
  | 0 => ("SlimeNet$Reader", "size", "I", true)
  | 1 => ("SlimeNet$Reader", "sort", "I", false)
  | 2 => ("SlimeNet$Reader", "at", "I", false)
  | 3 => ("SlimeNet$Reader", "to", "I", false)
  | 4 => ("SlimeNet$Reader", "value", "I", false)
  | 5 => ("SlimeNet$Reader", "this$0", "LSlimeNet;", true)
  | 6 => ("SlimeNet$PlateReader", "made", "LSlimeNet$Plate;", true)
  | 7 => ("SlimeNet$PlateReader", "told", "I", false)
  | _ => ("SlimeNet$PlateReader", "this$0", "LSlimeNet;", true)
def tyX6 : Nat → FieldType := fun k => match k with
  | 0 => .int
  | 1 => .int
  | 2 => .int
  | 3 => .int
  | 4 => .int
  | 5 => .object "SlimeNet"
  | 6 => .object "SlimeNet$Plate"
  | 7 => .int
  | _ => .object "SlimeNet"
abbrev wsX60 : List Cond := u_ws RX6 TX6 9
-- two fields of one name: no nmX6
theorem tyX6_ok : ∀ k, k < 9 → parseFieldDescriptor (TX6 k).2.2.1 = some (tyX6 k) := by decide +kernel
abbrev cX6_init : ByteArray := prog_4_method_1_code
def yX6_init : MethodName := ⟨RX6, "<init>", "(LSlimeNet;I)V"⟩
def dkwX6_init_0 : List UInt8 := [42, 43, 181, 0, 3, 42, 43, 28, 183, 0, 9, 42, 187, 0, 15, 89, 183, 0, 17, 181, 0, 20, 177]
abbrev dktX6_init_0 : List UInt8 := dkwX6_init_0 ++ []
theorem dksX6_init_0 : cX6_init.data.toList.drop 0 = dktX6_init_0 := by decide +kernel
theorem dX6_init_0 : decode cX6_init 0 = .ok (.aload_n 0, 1) := dk_42 (dk_at dksX6_init_0 0 rfl rfl)
theorem dX6_init_1 : decode cX6_init 1 = .ok (.aload_n 1, 1) := dk_43 (dk_at dksX6_init_0 1 rfl rfl)
theorem dX6_init_2 : decode cX6_init 2 = .ok (.putfield 3, 3) := dk_181 0 3 (dk_at dksX6_init_0 2 rfl rfl)
theorem dX6_init_5 : decode cX6_init 5 = .ok (.aload_n 0, 1) := dk_42 (dk_at dksX6_init_0 5 rfl rfl)
theorem dX6_init_6 : decode cX6_init 6 = .ok (.aload_n 1, 1) := dk_43 (dk_at dksX6_init_0 6 rfl rfl)
theorem dX6_init_7 : decode cX6_init 7 = .ok (.iload_n 2, 1) := dk_28 (dk_at dksX6_init_0 7 rfl rfl)
theorem dX6_init_8 : decode cX6_init 8 = .ok (.invokespecial 9, 3) := dk_183 0 9 (dk_at dksX6_init_0 8 rfl rfl)
theorem dX6_init_11 : decode cX6_init 11 = .ok (.aload_n 0, 1) := dk_42 (dk_at dksX6_init_0 11 rfl rfl)
theorem dX6_init_12 : decode cX6_init 12 = .ok (.new 15, 3) := dk_187 0 15 (dk_at dksX6_init_0 12 rfl rfl)
theorem dX6_init_15 : decode cX6_init 15 = .ok (.dup, 1) := dk_89 (dk_at dksX6_init_0 15 rfl rfl)
theorem dX6_init_16 : decode cX6_init 16 = .ok (.invokespecial 17, 3) := dk_183 0 17 (dk_at dksX6_init_0 16 rfl rfl)
theorem dX6_init_19 : decode cX6_init 19 = .ok (.putfield 20, 3) := dk_181 0 20 (dk_at dksX6_init_0 19 rfl rfl)
theorem dX6_init_22 : decode cX6_init 22 = .ok (.return_, 1) := dk_177 (dk_at dksX6_init_0 22 rfl rfl)
abbrev cX6_read : ByteArray := prog_4_method_2_code
def yX6_read : MethodName := ⟨RX6, "read", "()LSlimeNet$Plate;"⟩
def dkwX6_read_1 : List UInt8 := [96, 181, 0, 34, 167, 255, 228, 42, 180, 0, 20, 176]
abbrev dktX6_read_1 : List UInt8 := dkwX6_read_1 ++ []
def dkwX6_read_0 : List UInt8 := [42, 182, 0, 24, 154, 0, 27, 42, 182, 0, 28, 42, 182, 0, 31, 42, 180, 0, 20, 89, 180, 0, 34, 4]
abbrev dktX6_read_0 : List UInt8 := dkwX6_read_0 ++ dktX6_read_1
theorem dksX6_read_0 : cX6_read.data.toList.drop 0 = dktX6_read_0 := by decide +kernel
theorem dksX6_read_1 : cX6_read.data.toList.drop 24 = dktX6_read_1 := dk_seg dksX6_read_0 24 rfl rfl
theorem dX6_read_0 : decode cX6_read 0 = .ok (.aload_n 0, 1) := dk_42 (dk_at dksX6_read_0 0 rfl rfl)
theorem dX6_read_1 : decode cX6_read 1 = .ok (.invokevirtual 24, 3) := dk_182 0 24 (dk_at dksX6_read_0 1 rfl rfl)
theorem dX6_read_4 : decode cX6_read 4 = .ok (.ifCond .ne 27, 3) := dk_154 0 27 (dk_at dksX6_read_0 4 rfl rfl)
theorem dX6_read_7 : decode cX6_read 7 = .ok (.aload_n 0, 1) := dk_42 (dk_at dksX6_read_0 7 rfl rfl)
theorem dX6_read_8 : decode cX6_read 8 = .ok (.invokevirtual 28, 3) := dk_182 0 28 (dk_at dksX6_read_0 8 rfl rfl)
theorem dX6_read_11 : decode cX6_read 11 = .ok (.aload_n 0, 1) := dk_42 (dk_at dksX6_read_0 11 rfl rfl)
theorem dX6_read_12 : decode cX6_read 12 = .ok (.invokevirtual 31, 3) := dk_182 0 31 (dk_at dksX6_read_0 12 rfl rfl)
theorem dX6_read_15 : decode cX6_read 15 = .ok (.aload_n 0, 1) := dk_42 (dk_at dksX6_read_0 15 rfl rfl)
theorem dX6_read_16 : decode cX6_read 16 = .ok (.getfield 20, 3) := dk_180 0 20 (dk_at dksX6_read_0 16 rfl rfl)
theorem dX6_read_19 : decode cX6_read 19 = .ok (.dup, 1) := dk_89 (dk_at dksX6_read_0 19 rfl rfl)
theorem dX6_read_20 : decode cX6_read 20 = .ok (.getfield 34, 3) := dk_180 0 34 (dk_at dksX6_read_0 20 rfl rfl)
theorem dX6_read_23 : decode cX6_read 23 = .ok (.iconst 1, 1) := dk_4 (dk_at dksX6_read_0 23 rfl rfl)
theorem dX6_read_24 : decode cX6_read 24 = .ok (.iadd, 1) := dk_96 (dk_at dksX6_read_1 0 rfl rfl)
theorem dX6_read_25 : decode cX6_read 25 = .ok (.putfield 34, 3) := dk_181 0 34 (dk_at dksX6_read_1 1 rfl rfl)
theorem dX6_read_28 : decode cX6_read 28 = .ok (.goto (-28), 3) := dk_167 255 228 (dk_at dksX6_read_1 4 rfl rfl)
theorem dX6_read_31 : decode cX6_read 31 = .ok (.aload_n 0, 1) := dk_42 (dk_at dksX6_read_1 7 rfl rfl)
theorem dX6_read_32 : decode cX6_read 32 = .ok (.getfield 20, 3) := dk_180 0 20 (dk_at dksX6_read_1 8 rfl rfl)
theorem dX6_read_35 : decode cX6_read 35 = .ok (.areturn, 1) := dk_176 (dk_at dksX6_read_1 11 rfl rfl)
abbrev cX6_clause : ByteArray := prog_4_method_4_code
def yX6_clause : MethodName := ⟨RX6, "clause", "()V"⟩
def dkwX6_clause_9 : List UInt8 := [182, 0, 83, 87, 42, 180, 0, 20, 42, 4, 16, 9, 182, 0, 87, 181, 0, 103, 177]
abbrev dktX6_clause_9 : List UInt8 := dkwX6_clause_9 ++ []
def dkwX6_clause_8 : List UInt8 := [182, 0, 87, 181, 0, 99, 167, 0, 36, 42, 42, 18, 101, 182, 0, 38, 4, 182, 0, 45, 42, 18, 101, 5]
abbrev dktX6_clause_8 : List UInt8 := dkwX6_clause_8 ++ dktX6_clause_9
def dkwX6_clause_7 : List UInt8 := [181, 0, 94, 167, 0, 63, 42, 18, 97, 4, 182, 0, 83, 153, 0, 20, 42, 180, 0, 20, 42, 4, 16, 9]
abbrev dktX6_clause_7 : List UInt8 := dkwX6_clause_7 ++ dktX6_clause_8
def dkwX6_clause_6 : List UInt8 := [180, 0, 20, 42, 3, 16, 20, 182, 0, 87, 181, 0, 91, 42, 180, 0, 20, 42, 3, 16, 20, 182, 0, 87]
abbrev dktX6_clause_6 : List UInt8 := dkwX6_clause_6 ++ dktX6_clause_7
def dkwX6_clause_5 : List UInt8 := [42, 182, 0, 49, 42, 182, 0, 79, 167, 0, 104, 42, 18, 81, 3, 182, 0, 83, 153, 0, 34, 42]
abbrev dktX6_clause_5 : List UInt8 := dkwX6_clause_5 ++ dktX6_clause_6
def dkwX6_clause_4 : List UInt8 := [180, 0, 74, 4, 96, 181, 0, 74, 42, 182, 0, 49, 167, 0, 124, 42, 18, 77, 182, 0, 38, 153, 0, 14]
abbrev dktX6_clause_4 : List UInt8 := dkwX6_clause_4 ++ dktX6_clause_5
def dkwX6_clause_3 : List UInt8 := [182, 0, 45, 42, 180, 0, 20, 180, 0, 70, 42, 180, 0, 20, 180, 0, 74, 27, 79, 42, 180, 0, 20, 89]
abbrev dktX6_clause_3 : List UInt8 := dkwX6_clause_3 ++ dktX6_clause_4
def dkwX6_clause_2 : List UInt8 := [182, 0, 62, 60, 42, 42, 180, 0, 20, 27, 182, 0, 66, 154, 0, 7, 4, 167, 0, 4, 3, 6]
abbrev dktX6_clause_2 : List UInt8 := dkwX6_clause_2 ++ dktX6_clause_3
def dkwX6_clause_1 : List UInt8 := [153, 0, 10, 42, 182, 0, 58, 167, 0, 199, 42, 18, 60, 182, 0, 38, 153, 0, 69, 42, 182, 0, 49, 42]
abbrev dktX6_clause_1 : List UInt8 := dkwX6_clause_1 ++ dktX6_clause_2
def dkwX6_clause_0 : List UInt8 := [42, 18, 52, 182, 0, 38, 153, 0, 10, 42, 182, 0, 54, 167, 0, 215, 42, 18, 56, 182, 0, 38]
abbrev dktX6_clause_0 : List UInt8 := dkwX6_clause_0 ++ dktX6_clause_1
theorem dksX6_clause_0 : cX6_clause.data.toList.drop 0 = dktX6_clause_0 := by decide +kernel
theorem dksX6_clause_1 : cX6_clause.data.toList.drop 22 = dktX6_clause_1 := dk_seg dksX6_clause_0 22 rfl rfl
theorem dksX6_clause_2 : cX6_clause.data.toList.drop 46 = dktX6_clause_2 := dk_seg dksX6_clause_1 24 rfl rfl
theorem dksX6_clause_3 : cX6_clause.data.toList.drop 68 = dktX6_clause_3 := dk_seg dksX6_clause_2 22 rfl rfl
theorem dksX6_clause_4 : cX6_clause.data.toList.drop 92 = dktX6_clause_4 := dk_seg dksX6_clause_3 24 rfl rfl
theorem dksX6_clause_5 : cX6_clause.data.toList.drop 116 = dktX6_clause_5 := dk_seg dksX6_clause_4 24 rfl rfl
theorem dksX6_clause_6 : cX6_clause.data.toList.drop 138 = dktX6_clause_6 := dk_seg dksX6_clause_5 22 rfl rfl
theorem dksX6_clause_7 : cX6_clause.data.toList.drop 162 = dktX6_clause_7 := dk_seg dksX6_clause_6 24 rfl rfl
theorem dksX6_clause_8 : cX6_clause.data.toList.drop 186 = dktX6_clause_8 := dk_seg dksX6_clause_7 24 rfl rfl
theorem dksX6_clause_9 : cX6_clause.data.toList.drop 210 = dktX6_clause_9 := dk_seg dksX6_clause_8 24 rfl rfl
theorem dX6_clause_0 : decode cX6_clause 0 = .ok (.aload_n 0, 1) := dk_42 (dk_at dksX6_clause_0 0 rfl rfl)
theorem dX6_clause_1 : decode cX6_clause 1 = .ok (.ldc 52, 2) := dk_18 52 (dk_at dksX6_clause_0 1 rfl rfl)
theorem dX6_clause_3 : decode cX6_clause 3 = .ok (.invokevirtual 38, 3) := dk_182 0 38 (dk_at dksX6_clause_0 3 rfl rfl)
theorem dX6_clause_6 : decode cX6_clause 6 = .ok (.ifCond .eq 10, 3) := dk_153 0 10 (dk_at dksX6_clause_0 6 rfl rfl)
theorem dX6_clause_9 : decode cX6_clause 9 = .ok (.aload_n 0, 1) := dk_42 (dk_at dksX6_clause_0 9 rfl rfl)
theorem dX6_clause_10 : decode cX6_clause 10 = .ok (.invokevirtual 54, 3) := dk_182 0 54 (dk_at dksX6_clause_0 10 rfl rfl)
theorem dX6_clause_13 : decode cX6_clause 13 = .ok (.goto 215, 3) := dk_167 0 215 (dk_at dksX6_clause_0 13 rfl rfl)
theorem dX6_clause_16 : decode cX6_clause 16 = .ok (.aload_n 0, 1) := dk_42 (dk_at dksX6_clause_0 16 rfl rfl)
theorem dX6_clause_17 : decode cX6_clause 17 = .ok (.ldc 56, 2) := dk_18 56 (dk_at dksX6_clause_0 17 rfl rfl)
theorem dX6_clause_19 : decode cX6_clause 19 = .ok (.invokevirtual 38, 3) := dk_182 0 38 (dk_at dksX6_clause_0 19 rfl rfl)
theorem dX6_clause_22 : decode cX6_clause 22 = .ok (.ifCond .eq 10, 3) := dk_153 0 10 (dk_at dksX6_clause_1 0 rfl rfl)
theorem dX6_clause_25 : decode cX6_clause 25 = .ok (.aload_n 0, 1) := dk_42 (dk_at dksX6_clause_1 3 rfl rfl)
theorem dX6_clause_26 : decode cX6_clause 26 = .ok (.invokevirtual 58, 3) := dk_182 0 58 (dk_at dksX6_clause_1 4 rfl rfl)
theorem dX6_clause_29 : decode cX6_clause 29 = .ok (.goto 199, 3) := dk_167 0 199 (dk_at dksX6_clause_1 7 rfl rfl)
theorem dX6_clause_32 : decode cX6_clause 32 = .ok (.aload_n 0, 1) := dk_42 (dk_at dksX6_clause_1 10 rfl rfl)
theorem dX6_clause_33 : decode cX6_clause 33 = .ok (.ldc 60, 2) := dk_18 60 (dk_at dksX6_clause_1 11 rfl rfl)
theorem dX6_clause_35 : decode cX6_clause 35 = .ok (.invokevirtual 38, 3) := dk_182 0 38 (dk_at dksX6_clause_1 13 rfl rfl)
theorem dX6_clause_38 : decode cX6_clause 38 = .ok (.ifCond .eq 69, 3) := dk_153 0 69 (dk_at dksX6_clause_1 16 rfl rfl)
theorem dX6_clause_41 : decode cX6_clause 41 = .ok (.aload_n 0, 1) := dk_42 (dk_at dksX6_clause_1 19 rfl rfl)
theorem dX6_clause_42 : decode cX6_clause 42 = .ok (.invokevirtual 49, 3) := dk_182 0 49 (dk_at dksX6_clause_1 20 rfl rfl)
theorem dX6_clause_45 : decode cX6_clause 45 = .ok (.aload_n 0, 1) := dk_42 (dk_at dksX6_clause_1 23 rfl rfl)
theorem dX6_clause_46 : decode cX6_clause 46 = .ok (.invokevirtual 62, 3) := dk_182 0 62 (dk_at dksX6_clause_2 0 rfl rfl)
theorem dX6_clause_49 : decode cX6_clause 49 = .ok (.istore_n 1, 1) := dk_60 (dk_at dksX6_clause_2 3 rfl rfl)
theorem dX6_clause_50 : decode cX6_clause 50 = .ok (.aload_n 0, 1) := dk_42 (dk_at dksX6_clause_2 4 rfl rfl)
theorem dX6_clause_51 : decode cX6_clause 51 = .ok (.aload_n 0, 1) := dk_42 (dk_at dksX6_clause_2 5 rfl rfl)
theorem dX6_clause_52 : decode cX6_clause 52 = .ok (.getfield 20, 3) := dk_180 0 20 (dk_at dksX6_clause_2 6 rfl rfl)
theorem dX6_clause_55 : decode cX6_clause 55 = .ok (.iload_n 1, 1) := dk_27 (dk_at dksX6_clause_2 9 rfl rfl)
theorem dX6_clause_56 : decode cX6_clause 56 = .ok (.invokevirtual 66, 3) := dk_182 0 66 (dk_at dksX6_clause_2 10 rfl rfl)
theorem dX6_clause_59 : decode cX6_clause 59 = .ok (.ifCond .ne 7, 3) := dk_154 0 7 (dk_at dksX6_clause_2 13 rfl rfl)
theorem dX6_clause_62 : decode cX6_clause 62 = .ok (.iconst 1, 1) := dk_4 (dk_at dksX6_clause_2 16 rfl rfl)
theorem dX6_clause_63 : decode cX6_clause 63 = .ok (.goto 4, 3) := dk_167 0 4 (dk_at dksX6_clause_2 17 rfl rfl)
theorem dX6_clause_66 : decode cX6_clause 66 = .ok (.iconst 0, 1) := dk_3 (dk_at dksX6_clause_2 20 rfl rfl)
theorem dX6_clause_67 : decode cX6_clause 67 = .ok (.iconst 3, 1) := dk_6 (dk_at dksX6_clause_2 21 rfl rfl)
theorem dX6_clause_68 : decode cX6_clause 68 = .ok (.invokevirtual 45, 3) := dk_182 0 45 (dk_at dksX6_clause_3 0 rfl rfl)
theorem dX6_clause_71 : decode cX6_clause 71 = .ok (.aload_n 0, 1) := dk_42 (dk_at dksX6_clause_3 3 rfl rfl)
theorem dX6_clause_72 : decode cX6_clause 72 = .ok (.getfield 20, 3) := dk_180 0 20 (dk_at dksX6_clause_3 4 rfl rfl)
theorem dX6_clause_75 : decode cX6_clause 75 = .ok (.getfield 70, 3) := dk_180 0 70 (dk_at dksX6_clause_3 7 rfl rfl)
theorem dX6_clause_78 : decode cX6_clause 78 = .ok (.aload_n 0, 1) := dk_42 (dk_at dksX6_clause_3 10 rfl rfl)
theorem dX6_clause_79 : decode cX6_clause 79 = .ok (.getfield 20, 3) := dk_180 0 20 (dk_at dksX6_clause_3 11 rfl rfl)
theorem dX6_clause_82 : decode cX6_clause 82 = .ok (.getfield 74, 3) := dk_180 0 74 (dk_at dksX6_clause_3 14 rfl rfl)
theorem dX6_clause_85 : decode cX6_clause 85 = .ok (.iload_n 1, 1) := dk_27 (dk_at dksX6_clause_3 17 rfl rfl)
theorem dX6_clause_86 : decode cX6_clause 86 = .ok (.iastore, 1) := dk_79 (dk_at dksX6_clause_3 18 rfl rfl)
theorem dX6_clause_87 : decode cX6_clause 87 = .ok (.aload_n 0, 1) := dk_42 (dk_at dksX6_clause_3 19 rfl rfl)
theorem dX6_clause_88 : decode cX6_clause 88 = .ok (.getfield 20, 3) := dk_180 0 20 (dk_at dksX6_clause_3 20 rfl rfl)
theorem dX6_clause_91 : decode cX6_clause 91 = .ok (.dup, 1) := dk_89 (dk_at dksX6_clause_3 23 rfl rfl)
theorem dX6_clause_92 : decode cX6_clause 92 = .ok (.getfield 74, 3) := dk_180 0 74 (dk_at dksX6_clause_4 0 rfl rfl)
theorem dX6_clause_95 : decode cX6_clause 95 = .ok (.iconst 1, 1) := dk_4 (dk_at dksX6_clause_4 3 rfl rfl)
theorem dX6_clause_96 : decode cX6_clause 96 = .ok (.iadd, 1) := dk_96 (dk_at dksX6_clause_4 4 rfl rfl)
theorem dX6_clause_97 : decode cX6_clause 97 = .ok (.putfield 74, 3) := dk_181 0 74 (dk_at dksX6_clause_4 5 rfl rfl)
theorem dX6_clause_100 : decode cX6_clause 100 = .ok (.aload_n 0, 1) := dk_42 (dk_at dksX6_clause_4 8 rfl rfl)
theorem dX6_clause_101 : decode cX6_clause 101 = .ok (.invokevirtual 49, 3) := dk_182 0 49 (dk_at dksX6_clause_4 9 rfl rfl)
theorem dX6_clause_104 : decode cX6_clause 104 = .ok (.goto 124, 3) := dk_167 0 124 (dk_at dksX6_clause_4 12 rfl rfl)
theorem dX6_clause_107 : decode cX6_clause 107 = .ok (.aload_n 0, 1) := dk_42 (dk_at dksX6_clause_4 15 rfl rfl)
theorem dX6_clause_108 : decode cX6_clause 108 = .ok (.ldc 77, 2) := dk_18 77 (dk_at dksX6_clause_4 16 rfl rfl)
theorem dX6_clause_110 : decode cX6_clause 110 = .ok (.invokevirtual 38, 3) := dk_182 0 38 (dk_at dksX6_clause_4 18 rfl rfl)
theorem dX6_clause_113 : decode cX6_clause 113 = .ok (.ifCond .eq 14, 3) := dk_153 0 14 (dk_at dksX6_clause_4 21 rfl rfl)
theorem dX6_clause_116 : decode cX6_clause 116 = .ok (.aload_n 0, 1) := dk_42 (dk_at dksX6_clause_5 0 rfl rfl)
theorem dX6_clause_117 : decode cX6_clause 117 = .ok (.invokevirtual 49, 3) := dk_182 0 49 (dk_at dksX6_clause_5 1 rfl rfl)
theorem dX6_clause_120 : decode cX6_clause 120 = .ok (.aload_n 0, 1) := dk_42 (dk_at dksX6_clause_5 4 rfl rfl)
theorem dX6_clause_121 : decode cX6_clause 121 = .ok (.invokevirtual 79, 3) := dk_182 0 79 (dk_at dksX6_clause_5 5 rfl rfl)
theorem dX6_clause_124 : decode cX6_clause 124 = .ok (.goto 104, 3) := dk_167 0 104 (dk_at dksX6_clause_5 8 rfl rfl)
theorem dX6_clause_127 : decode cX6_clause 127 = .ok (.aload_n 0, 1) := dk_42 (dk_at dksX6_clause_5 11 rfl rfl)
theorem dX6_clause_128 : decode cX6_clause 128 = .ok (.ldc 81, 2) := dk_18 81 (dk_at dksX6_clause_5 12 rfl rfl)
theorem dX6_clause_130 : decode cX6_clause 130 = .ok (.iconst 0, 1) := dk_3 (dk_at dksX6_clause_5 14 rfl rfl)
theorem dX6_clause_131 : decode cX6_clause 131 = .ok (.invokevirtual 83, 3) := dk_182 0 83 (dk_at dksX6_clause_5 15 rfl rfl)
theorem dX6_clause_134 : decode cX6_clause 134 = .ok (.ifCond .eq 34, 3) := dk_153 0 34 (dk_at dksX6_clause_5 18 rfl rfl)
theorem dX6_clause_137 : decode cX6_clause 137 = .ok (.aload_n 0, 1) := dk_42 (dk_at dksX6_clause_5 21 rfl rfl)
theorem dX6_clause_138 : decode cX6_clause 138 = .ok (.getfield 20, 3) := dk_180 0 20 (dk_at dksX6_clause_6 0 rfl rfl)
theorem dX6_clause_141 : decode cX6_clause 141 = .ok (.aload_n 0, 1) := dk_42 (dk_at dksX6_clause_6 3 rfl rfl)
theorem dX6_clause_142 : decode cX6_clause 142 = .ok (.iconst 0, 1) := dk_3 (dk_at dksX6_clause_6 4 rfl rfl)
theorem dX6_clause_143 : decode cX6_clause 143 = .ok (.bipush 20, 2) := dk_16 20 (dk_at dksX6_clause_6 5 rfl rfl)
theorem dX6_clause_145 : decode cX6_clause 145 = .ok (.invokevirtual 87, 3) := dk_182 0 87 (dk_at dksX6_clause_6 7 rfl rfl)
theorem dX6_clause_148 : decode cX6_clause 148 = .ok (.putfield 91, 3) := dk_181 0 91 (dk_at dksX6_clause_6 10 rfl rfl)
theorem dX6_clause_151 : decode cX6_clause 151 = .ok (.aload_n 0, 1) := dk_42 (dk_at dksX6_clause_6 13 rfl rfl)
theorem dX6_clause_152 : decode cX6_clause 152 = .ok (.getfield 20, 3) := dk_180 0 20 (dk_at dksX6_clause_6 14 rfl rfl)
theorem dX6_clause_155 : decode cX6_clause 155 = .ok (.aload_n 0, 1) := dk_42 (dk_at dksX6_clause_6 17 rfl rfl)
theorem dX6_clause_156 : decode cX6_clause 156 = .ok (.iconst 0, 1) := dk_3 (dk_at dksX6_clause_6 18 rfl rfl)
theorem dX6_clause_157 : decode cX6_clause 157 = .ok (.bipush 20, 2) := dk_16 20 (dk_at dksX6_clause_6 19 rfl rfl)
theorem dX6_clause_159 : decode cX6_clause 159 = .ok (.invokevirtual 87, 3) := dk_182 0 87 (dk_at dksX6_clause_6 21 rfl rfl)
theorem dX6_clause_162 : decode cX6_clause 162 = .ok (.putfield 94, 3) := dk_181 0 94 (dk_at dksX6_clause_7 0 rfl rfl)
theorem dX6_clause_165 : decode cX6_clause 165 = .ok (.goto 63, 3) := dk_167 0 63 (dk_at dksX6_clause_7 3 rfl rfl)
theorem dX6_clause_168 : decode cX6_clause 168 = .ok (.aload_n 0, 1) := dk_42 (dk_at dksX6_clause_7 6 rfl rfl)
theorem dX6_clause_169 : decode cX6_clause 169 = .ok (.ldc 97, 2) := dk_18 97 (dk_at dksX6_clause_7 7 rfl rfl)
theorem dX6_clause_171 : decode cX6_clause 171 = .ok (.iconst 1, 1) := dk_4 (dk_at dksX6_clause_7 9 rfl rfl)
theorem dX6_clause_172 : decode cX6_clause 172 = .ok (.invokevirtual 83, 3) := dk_182 0 83 (dk_at dksX6_clause_7 10 rfl rfl)
theorem dX6_clause_175 : decode cX6_clause 175 = .ok (.ifCond .eq 20, 3) := dk_153 0 20 (dk_at dksX6_clause_7 13 rfl rfl)
theorem dX6_clause_178 : decode cX6_clause 178 = .ok (.aload_n 0, 1) := dk_42 (dk_at dksX6_clause_7 16 rfl rfl)
theorem dX6_clause_179 : decode cX6_clause 179 = .ok (.getfield 20, 3) := dk_180 0 20 (dk_at dksX6_clause_7 17 rfl rfl)
theorem dX6_clause_182 : decode cX6_clause 182 = .ok (.aload_n 0, 1) := dk_42 (dk_at dksX6_clause_7 20 rfl rfl)
theorem dX6_clause_183 : decode cX6_clause 183 = .ok (.iconst 1, 1) := dk_4 (dk_at dksX6_clause_7 21 rfl rfl)
theorem dX6_clause_184 : decode cX6_clause 184 = .ok (.bipush 9, 2) := dk_16 9 (dk_at dksX6_clause_7 22 rfl rfl)
theorem dX6_clause_186 : decode cX6_clause 186 = .ok (.invokevirtual 87, 3) := dk_182 0 87 (dk_at dksX6_clause_8 0 rfl rfl)
theorem dX6_clause_189 : decode cX6_clause 189 = .ok (.putfield 99, 3) := dk_181 0 99 (dk_at dksX6_clause_8 3 rfl rfl)
theorem dX6_clause_192 : decode cX6_clause 192 = .ok (.goto 36, 3) := dk_167 0 36 (dk_at dksX6_clause_8 6 rfl rfl)
theorem dX6_clause_195 : decode cX6_clause 195 = .ok (.aload_n 0, 1) := dk_42 (dk_at dksX6_clause_8 9 rfl rfl)
theorem dX6_clause_196 : decode cX6_clause 196 = .ok (.aload_n 0, 1) := dk_42 (dk_at dksX6_clause_8 10 rfl rfl)
theorem dX6_clause_197 : decode cX6_clause 197 = .ok (.ldc 101, 2) := dk_18 101 (dk_at dksX6_clause_8 11 rfl rfl)
theorem dX6_clause_199 : decode cX6_clause 199 = .ok (.invokevirtual 38, 3) := dk_182 0 38 (dk_at dksX6_clause_8 13 rfl rfl)
theorem dX6_clause_202 : decode cX6_clause 202 = .ok (.iconst 1, 1) := dk_4 (dk_at dksX6_clause_8 16 rfl rfl)
theorem dX6_clause_203 : decode cX6_clause 203 = .ok (.invokevirtual 45, 3) := dk_182 0 45 (dk_at dksX6_clause_8 17 rfl rfl)
theorem dX6_clause_206 : decode cX6_clause 206 = .ok (.aload_n 0, 1) := dk_42 (dk_at dksX6_clause_8 20 rfl rfl)
theorem dX6_clause_207 : decode cX6_clause 207 = .ok (.ldc 101, 2) := dk_18 101 (dk_at dksX6_clause_8 21 rfl rfl)
theorem dX6_clause_209 : decode cX6_clause 209 = .ok (.iconst 2, 1) := dk_5 (dk_at dksX6_clause_8 23 rfl rfl)
theorem dX6_clause_210 : decode cX6_clause 210 = .ok (.invokevirtual 83, 3) := dk_182 0 83 (dk_at dksX6_clause_9 0 rfl rfl)
theorem dX6_clause_213 : decode cX6_clause 213 = .ok (.pop, 1) := dk_87 (dk_at dksX6_clause_9 3 rfl rfl)
theorem dX6_clause_214 : decode cX6_clause 214 = .ok (.aload_n 0, 1) := dk_42 (dk_at dksX6_clause_9 4 rfl rfl)
theorem dX6_clause_215 : decode cX6_clause 215 = .ok (.getfield 20, 3) := dk_180 0 20 (dk_at dksX6_clause_9 5 rfl rfl)
theorem dX6_clause_218 : decode cX6_clause 218 = .ok (.aload_n 0, 1) := dk_42 (dk_at dksX6_clause_9 8 rfl rfl)
theorem dX6_clause_219 : decode cX6_clause 219 = .ok (.iconst 1, 1) := dk_4 (dk_at dksX6_clause_9 9 rfl rfl)
theorem dX6_clause_220 : decode cX6_clause 220 = .ok (.bipush 9, 2) := dk_16 9 (dk_at dksX6_clause_9 10 rfl rfl)
theorem dX6_clause_222 : decode cX6_clause 222 = .ok (.invokevirtual 87, 3) := dk_182 0 87 (dk_at dksX6_clause_9 12 rfl rfl)
theorem dX6_clause_225 : decode cX6_clause 225 = .ok (.putfield 103, 3) := dk_181 0 103 (dk_at dksX6_clause_9 15 rfl rfl)
theorem dX6_clause_228 : decode cX6_clause 228 = .ok (.return_, 1) := dk_177 (dk_at dksX6_clause_9 18 rfl rfl)
abbrev cX6_spot : ByteArray := prog_4_method_5_code
def yX6_spot : MethodName := ⟨RX6, "spot", "()V"⟩
def dkwX6_spot_4 : List UInt8 := [182, 0, 49, 177]
abbrev dktX6_spot_4 : List UInt8 := dkwX6_spot_4 ++ []
def dkwX6_spot_3 : List UInt8 := [180, 0, 105, 42, 182, 0, 111, 80, 42, 180, 0, 20, 89, 180, 0, 105, 4, 96, 181, 0, 105, 42]
abbrev dktX6_spot_3 : List UInt8 := dkwX6_spot_3 ++ dktX6_spot_4
def dkwX6_spot_2 : List UInt8 := [2, 160, 0, 7, 4, 167, 0, 4, 3, 6, 182, 0, 45, 42, 180, 0, 20, 180, 0, 119, 42, 180, 0, 20]
abbrev dktX6_spot_2 : List UInt8 := dkwX6_spot_2 ++ dktX6_spot_3
def dkwX6_spot_1 : List UInt8 := [182, 0, 49, 42, 42, 182, 0, 108, 4, 182, 0, 45, 42, 42, 180, 0, 20, 42, 182, 0, 111, 182, 0, 115]
abbrev dktX6_spot_1 : List UInt8 := dkwX6_spot_1 ++ dktX6_spot_2
def dkwX6_spot_0 : List UInt8 := [42, 42, 180, 0, 20, 180, 0, 105, 16, 6, 162, 0, 7, 4, 167, 0, 4, 3, 7, 182, 0, 45, 42]
abbrev dktX6_spot_0 : List UInt8 := dkwX6_spot_0 ++ dktX6_spot_1
theorem dksX6_spot_0 : cX6_spot.data.toList.drop 0 = dktX6_spot_0 := by decide +kernel
theorem dksX6_spot_1 : cX6_spot.data.toList.drop 23 = dktX6_spot_1 := dk_seg dksX6_spot_0 23 rfl rfl
theorem dksX6_spot_2 : cX6_spot.data.toList.drop 47 = dktX6_spot_2 := dk_seg dksX6_spot_1 24 rfl rfl
theorem dksX6_spot_3 : cX6_spot.data.toList.drop 71 = dktX6_spot_3 := dk_seg dksX6_spot_2 24 rfl rfl
theorem dksX6_spot_4 : cX6_spot.data.toList.drop 93 = dktX6_spot_4 := dk_seg dksX6_spot_3 22 rfl rfl
theorem dX6_spot_0 : decode cX6_spot 0 = .ok (.aload_n 0, 1) := dk_42 (dk_at dksX6_spot_0 0 rfl rfl)
theorem dX6_spot_1 : decode cX6_spot 1 = .ok (.aload_n 0, 1) := dk_42 (dk_at dksX6_spot_0 1 rfl rfl)
theorem dX6_spot_2 : decode cX6_spot 2 = .ok (.getfield 20, 3) := dk_180 0 20 (dk_at dksX6_spot_0 2 rfl rfl)
theorem dX6_spot_5 : decode cX6_spot 5 = .ok (.getfield 105, 3) := dk_180 0 105 (dk_at dksX6_spot_0 5 rfl rfl)
theorem dX6_spot_8 : decode cX6_spot 8 = .ok (.bipush 6, 2) := dk_16 6 (dk_at dksX6_spot_0 8 rfl rfl)
theorem dX6_spot_10 : decode cX6_spot 10 = .ok (.if_icmp .ge 7, 3) := dk_162 0 7 (dk_at dksX6_spot_0 10 rfl rfl)
theorem dX6_spot_13 : decode cX6_spot 13 = .ok (.iconst 1, 1) := dk_4 (dk_at dksX6_spot_0 13 rfl rfl)
theorem dX6_spot_14 : decode cX6_spot 14 = .ok (.goto 4, 3) := dk_167 0 4 (dk_at dksX6_spot_0 14 rfl rfl)
theorem dX6_spot_17 : decode cX6_spot 17 = .ok (.iconst 0, 1) := dk_3 (dk_at dksX6_spot_0 17 rfl rfl)
theorem dX6_spot_18 : decode cX6_spot 18 = .ok (.iconst 4, 1) := dk_7 (dk_at dksX6_spot_0 18 rfl rfl)
theorem dX6_spot_19 : decode cX6_spot 19 = .ok (.invokevirtual 45, 3) := dk_182 0 45 (dk_at dksX6_spot_0 19 rfl rfl)
theorem dX6_spot_22 : decode cX6_spot 22 = .ok (.aload_n 0, 1) := dk_42 (dk_at dksX6_spot_0 22 rfl rfl)
theorem dX6_spot_23 : decode cX6_spot 23 = .ok (.invokevirtual 49, 3) := dk_182 0 49 (dk_at dksX6_spot_1 0 rfl rfl)
theorem dX6_spot_26 : decode cX6_spot 26 = .ok (.aload_n 0, 1) := dk_42 (dk_at dksX6_spot_1 3 rfl rfl)
theorem dX6_spot_27 : decode cX6_spot 27 = .ok (.aload_n 0, 1) := dk_42 (dk_at dksX6_spot_1 4 rfl rfl)
theorem dX6_spot_28 : decode cX6_spot 28 = .ok (.invokevirtual 108, 3) := dk_182 0 108 (dk_at dksX6_spot_1 5 rfl rfl)
theorem dX6_spot_31 : decode cX6_spot 31 = .ok (.iconst 1, 1) := dk_4 (dk_at dksX6_spot_1 8 rfl rfl)
theorem dX6_spot_32 : decode cX6_spot 32 = .ok (.invokevirtual 45, 3) := dk_182 0 45 (dk_at dksX6_spot_1 9 rfl rfl)
theorem dX6_spot_35 : decode cX6_spot 35 = .ok (.aload_n 0, 1) := dk_42 (dk_at dksX6_spot_1 12 rfl rfl)
theorem dX6_spot_36 : decode cX6_spot 36 = .ok (.aload_n 0, 1) := dk_42 (dk_at dksX6_spot_1 13 rfl rfl)
theorem dX6_spot_37 : decode cX6_spot 37 = .ok (.getfield 20, 3) := dk_180 0 20 (dk_at dksX6_spot_1 14 rfl rfl)
theorem dX6_spot_40 : decode cX6_spot 40 = .ok (.aload_n 0, 1) := dk_42 (dk_at dksX6_spot_1 17 rfl rfl)
theorem dX6_spot_41 : decode cX6_spot 41 = .ok (.invokevirtual 111, 3) := dk_182 0 111 (dk_at dksX6_spot_1 18 rfl rfl)
theorem dX6_spot_44 : decode cX6_spot 44 = .ok (.invokevirtual 115, 3) := dk_182 0 115 (dk_at dksX6_spot_1 21 rfl rfl)
theorem dX6_spot_47 : decode cX6_spot 47 = .ok (.iconst (-1), 1) := dk_2 (dk_at dksX6_spot_2 0 rfl rfl)
theorem dX6_spot_48 : decode cX6_spot 48 = .ok (.if_icmp .ne 7, 3) := dk_160 0 7 (dk_at dksX6_spot_2 1 rfl rfl)
theorem dX6_spot_51 : decode cX6_spot 51 = .ok (.iconst 1, 1) := dk_4 (dk_at dksX6_spot_2 4 rfl rfl)
theorem dX6_spot_52 : decode cX6_spot 52 = .ok (.goto 4, 3) := dk_167 0 4 (dk_at dksX6_spot_2 5 rfl rfl)
theorem dX6_spot_55 : decode cX6_spot 55 = .ok (.iconst 0, 1) := dk_3 (dk_at dksX6_spot_2 8 rfl rfl)
theorem dX6_spot_56 : decode cX6_spot 56 = .ok (.iconst 3, 1) := dk_6 (dk_at dksX6_spot_2 9 rfl rfl)
theorem dX6_spot_57 : decode cX6_spot 57 = .ok (.invokevirtual 45, 3) := dk_182 0 45 (dk_at dksX6_spot_2 10 rfl rfl)
theorem dX6_spot_60 : decode cX6_spot 60 = .ok (.aload_n 0, 1) := dk_42 (dk_at dksX6_spot_2 13 rfl rfl)
theorem dX6_spot_61 : decode cX6_spot 61 = .ok (.getfield 20, 3) := dk_180 0 20 (dk_at dksX6_spot_2 14 rfl rfl)
theorem dX6_spot_64 : decode cX6_spot 64 = .ok (.getfield 119, 3) := dk_180 0 119 (dk_at dksX6_spot_2 17 rfl rfl)
theorem dX6_spot_67 : decode cX6_spot 67 = .ok (.aload_n 0, 1) := dk_42 (dk_at dksX6_spot_2 20 rfl rfl)
theorem dX6_spot_68 : decode cX6_spot 68 = .ok (.getfield 20, 3) := dk_180 0 20 (dk_at dksX6_spot_2 21 rfl rfl)
theorem dX6_spot_71 : decode cX6_spot 71 = .ok (.getfield 105, 3) := dk_180 0 105 (dk_at dksX6_spot_3 0 rfl rfl)
theorem dX6_spot_74 : decode cX6_spot 74 = .ok (.aload_n 0, 1) := dk_42 (dk_at dksX6_spot_3 3 rfl rfl)
theorem dX6_spot_75 : decode cX6_spot 75 = .ok (.invokevirtual 111, 3) := dk_182 0 111 (dk_at dksX6_spot_3 4 rfl rfl)
theorem dX6_spot_78 : decode cX6_spot 78 = .ok (.lastore, 1) := dk_80 (dk_at dksX6_spot_3 7 rfl rfl)
theorem dX6_spot_79 : decode cX6_spot 79 = .ok (.aload_n 0, 1) := dk_42 (dk_at dksX6_spot_3 8 rfl rfl)
theorem dX6_spot_80 : decode cX6_spot 80 = .ok (.getfield 20, 3) := dk_180 0 20 (dk_at dksX6_spot_3 9 rfl rfl)
theorem dX6_spot_83 : decode cX6_spot 83 = .ok (.dup, 1) := dk_89 (dk_at dksX6_spot_3 12 rfl rfl)
theorem dX6_spot_84 : decode cX6_spot 84 = .ok (.getfield 105, 3) := dk_180 0 105 (dk_at dksX6_spot_3 13 rfl rfl)
theorem dX6_spot_87 : decode cX6_spot 87 = .ok (.iconst 1, 1) := dk_4 (dk_at dksX6_spot_3 16 rfl rfl)
theorem dX6_spot_88 : decode cX6_spot 88 = .ok (.iadd, 1) := dk_96 (dk_at dksX6_spot_3 17 rfl rfl)
theorem dX6_spot_89 : decode cX6_spot 89 = .ok (.putfield 105, 3) := dk_181 0 105 (dk_at dksX6_spot_3 18 rfl rfl)
theorem dX6_spot_92 : decode cX6_spot 92 = .ok (.aload_n 0, 1) := dk_42 (dk_at dksX6_spot_3 21 rfl rfl)
theorem dX6_spot_93 : decode cX6_spot 93 = .ok (.invokevirtual 49, 3) := dk_182 0 49 (dk_at dksX6_spot_4 0 rfl rfl)
theorem dX6_spot_96 : decode cX6_spot 96 = .ok (.return_, 1) := dk_177 (dk_at dksX6_spot_4 3 rfl rfl)
abbrev cX6_pipe : ByteArray := prog_4_method_7_code
def yX6_pipe : MethodName := ⟨RX6, "pipe", "()V"⟩
def dkwX6_pipe_7 : List UInt8 := [183, 0, 141, 182, 0, 144, 87, 42, 182, 0, 49, 177]
abbrev dktX6_pipe_7 : List UInt8 := dkwX6_pipe_7 ++ []
def dkwX6_pipe_6 : List UInt8 := [180, 0, 20, 180, 0, 123, 187, 0, 139, 89, 42, 180, 0, 20, 180, 0, 123, 182, 0, 127, 27, 28, 29]
abbrev dktX6_pipe_6 : List UInt8 := dkwX6_pipe_6 ++ dktX6_pipe_7
def dkwX6_pipe_5 : List UInt8 := [182, 0, 136, 62, 42, 16, 12, 29, 112, 154, 0, 7, 4, 167, 0, 4, 3, 5, 182, 0, 45, 42]
abbrev dktX6_pipe_5 : List UInt8 := dkwX6_pipe_5 ++ dktX6_pipe_6
def dkwX6_pipe_4 : List UInt8 := [42, 28, 2, 159, 0, 7, 4, 167, 0, 4, 3, 8, 182, 0, 45, 42, 182, 0, 49, 42, 4, 16, 12]
abbrev dktX6_pipe_4 : List UInt8 := dkwX6_pipe_4 ++ dktX6_pipe_5
def dkwX6_pipe_3 : List UInt8 := [159, 0, 19, 42, 180, 0, 20, 27, 28, 182, 0, 132, 199, 0, 7, 4, 167, 0, 4, 3, 6, 182, 0, 45]
abbrev dktX6_pipe_3 : List UInt8 := dkwX6_pipe_3 ++ dktX6_pipe_4
def dkwX6_pipe_2 : List UInt8 := [182, 0, 45, 42, 180, 0, 20, 42, 182, 0, 111, 182, 0, 115, 61, 42, 28, 2, 159, 0, 20, 28, 27]
abbrev dktX6_pipe_2 : List UInt8 := dkwX6_pipe_2 ++ dktX6_pipe_3
def dkwX6_pipe_1 : List UInt8 := [182, 0, 45, 42, 182, 0, 49, 42, 182, 0, 62, 60, 42, 182, 0, 49, 42, 42, 182, 0, 108, 4]
abbrev dktX6_pipe_1 : List UInt8 := dkwX6_pipe_1 ++ dktX6_pipe_2
def dkwX6_pipe_0 : List UInt8 := [42, 42, 180, 0, 20, 180, 0, 123, 182, 0, 127, 16, 10, 162, 0, 7, 4, 167, 0, 4, 3, 7]
abbrev dktX6_pipe_0 : List UInt8 := dkwX6_pipe_0 ++ dktX6_pipe_1
theorem dksX6_pipe_0 : cX6_pipe.data.toList.drop 0 = dktX6_pipe_0 := by decide +kernel
theorem dksX6_pipe_1 : cX6_pipe.data.toList.drop 22 = dktX6_pipe_1 := dk_seg dksX6_pipe_0 22 rfl rfl
theorem dksX6_pipe_2 : cX6_pipe.data.toList.drop 44 = dktX6_pipe_2 := dk_seg dksX6_pipe_1 22 rfl rfl
theorem dksX6_pipe_3 : cX6_pipe.data.toList.drop 67 = dktX6_pipe_3 := dk_seg dksX6_pipe_2 23 rfl rfl
theorem dksX6_pipe_4 : cX6_pipe.data.toList.drop 91 = dktX6_pipe_4 := dk_seg dksX6_pipe_3 24 rfl rfl
theorem dksX6_pipe_5 : cX6_pipe.data.toList.drop 114 = dktX6_pipe_5 := dk_seg dksX6_pipe_4 23 rfl rfl
theorem dksX6_pipe_6 : cX6_pipe.data.toList.drop 136 = dktX6_pipe_6 := dk_seg dksX6_pipe_5 22 rfl rfl
theorem dksX6_pipe_7 : cX6_pipe.data.toList.drop 159 = dktX6_pipe_7 := dk_seg dksX6_pipe_6 23 rfl rfl
theorem dX6_pipe_0 : decode cX6_pipe 0 = .ok (.aload_n 0, 1) := dk_42 (dk_at dksX6_pipe_0 0 rfl rfl)
theorem dX6_pipe_1 : decode cX6_pipe 1 = .ok (.aload_n 0, 1) := dk_42 (dk_at dksX6_pipe_0 1 rfl rfl)
theorem dX6_pipe_2 : decode cX6_pipe 2 = .ok (.getfield 20, 3) := dk_180 0 20 (dk_at dksX6_pipe_0 2 rfl rfl)
theorem dX6_pipe_5 : decode cX6_pipe 5 = .ok (.getfield 123, 3) := dk_180 0 123 (dk_at dksX6_pipe_0 5 rfl rfl)
theorem dX6_pipe_8 : decode cX6_pipe 8 = .ok (.invokevirtual 127, 3) := dk_182 0 127 (dk_at dksX6_pipe_0 8 rfl rfl)
theorem dX6_pipe_11 : decode cX6_pipe 11 = .ok (.bipush 10, 2) := dk_16 10 (dk_at dksX6_pipe_0 11 rfl rfl)
theorem dX6_pipe_13 : decode cX6_pipe 13 = .ok (.if_icmp .ge 7, 3) := dk_162 0 7 (dk_at dksX6_pipe_0 13 rfl rfl)
theorem dX6_pipe_16 : decode cX6_pipe 16 = .ok (.iconst 1, 1) := dk_4 (dk_at dksX6_pipe_0 16 rfl rfl)
theorem dX6_pipe_17 : decode cX6_pipe 17 = .ok (.goto 4, 3) := dk_167 0 4 (dk_at dksX6_pipe_0 17 rfl rfl)
theorem dX6_pipe_20 : decode cX6_pipe 20 = .ok (.iconst 0, 1) := dk_3 (dk_at dksX6_pipe_0 20 rfl rfl)
theorem dX6_pipe_21 : decode cX6_pipe 21 = .ok (.iconst 4, 1) := dk_7 (dk_at dksX6_pipe_0 21 rfl rfl)
theorem dX6_pipe_22 : decode cX6_pipe 22 = .ok (.invokevirtual 45, 3) := dk_182 0 45 (dk_at dksX6_pipe_1 0 rfl rfl)
theorem dX6_pipe_25 : decode cX6_pipe 25 = .ok (.aload_n 0, 1) := dk_42 (dk_at dksX6_pipe_1 3 rfl rfl)
theorem dX6_pipe_26 : decode cX6_pipe 26 = .ok (.invokevirtual 49, 3) := dk_182 0 49 (dk_at dksX6_pipe_1 4 rfl rfl)
theorem dX6_pipe_29 : decode cX6_pipe 29 = .ok (.aload_n 0, 1) := dk_42 (dk_at dksX6_pipe_1 7 rfl rfl)
theorem dX6_pipe_30 : decode cX6_pipe 30 = .ok (.invokevirtual 62, 3) := dk_182 0 62 (dk_at dksX6_pipe_1 8 rfl rfl)
theorem dX6_pipe_33 : decode cX6_pipe 33 = .ok (.istore_n 1, 1) := dk_60 (dk_at dksX6_pipe_1 11 rfl rfl)
theorem dX6_pipe_34 : decode cX6_pipe 34 = .ok (.aload_n 0, 1) := dk_42 (dk_at dksX6_pipe_1 12 rfl rfl)
theorem dX6_pipe_35 : decode cX6_pipe 35 = .ok (.invokevirtual 49, 3) := dk_182 0 49 (dk_at dksX6_pipe_1 13 rfl rfl)
theorem dX6_pipe_38 : decode cX6_pipe 38 = .ok (.aload_n 0, 1) := dk_42 (dk_at dksX6_pipe_1 16 rfl rfl)
theorem dX6_pipe_39 : decode cX6_pipe 39 = .ok (.aload_n 0, 1) := dk_42 (dk_at dksX6_pipe_1 17 rfl rfl)
theorem dX6_pipe_40 : decode cX6_pipe 40 = .ok (.invokevirtual 108, 3) := dk_182 0 108 (dk_at dksX6_pipe_1 18 rfl rfl)
theorem dX6_pipe_43 : decode cX6_pipe 43 = .ok (.iconst 1, 1) := dk_4 (dk_at dksX6_pipe_1 21 rfl rfl)
theorem dX6_pipe_44 : decode cX6_pipe 44 = .ok (.invokevirtual 45, 3) := dk_182 0 45 (dk_at dksX6_pipe_2 0 rfl rfl)
theorem dX6_pipe_47 : decode cX6_pipe 47 = .ok (.aload_n 0, 1) := dk_42 (dk_at dksX6_pipe_2 3 rfl rfl)
theorem dX6_pipe_48 : decode cX6_pipe 48 = .ok (.getfield 20, 3) := dk_180 0 20 (dk_at dksX6_pipe_2 4 rfl rfl)
theorem dX6_pipe_51 : decode cX6_pipe 51 = .ok (.aload_n 0, 1) := dk_42 (dk_at dksX6_pipe_2 7 rfl rfl)
theorem dX6_pipe_52 : decode cX6_pipe 52 = .ok (.invokevirtual 111, 3) := dk_182 0 111 (dk_at dksX6_pipe_2 8 rfl rfl)
theorem dX6_pipe_55 : decode cX6_pipe 55 = .ok (.invokevirtual 115, 3) := dk_182 0 115 (dk_at dksX6_pipe_2 11 rfl rfl)
theorem dX6_pipe_58 : decode cX6_pipe 58 = .ok (.istore_n 2, 1) := dk_61 (dk_at dksX6_pipe_2 14 rfl rfl)
theorem dX6_pipe_59 : decode cX6_pipe 59 = .ok (.aload_n 0, 1) := dk_42 (dk_at dksX6_pipe_2 15 rfl rfl)
theorem dX6_pipe_60 : decode cX6_pipe 60 = .ok (.iload_n 2, 1) := dk_28 (dk_at dksX6_pipe_2 16 rfl rfl)
theorem dX6_pipe_61 : decode cX6_pipe 61 = .ok (.iconst (-1), 1) := dk_2 (dk_at dksX6_pipe_2 17 rfl rfl)
theorem dX6_pipe_62 : decode cX6_pipe 62 = .ok (.if_icmp .eq 20, 3) := dk_159 0 20 (dk_at dksX6_pipe_2 18 rfl rfl)
theorem dX6_pipe_65 : decode cX6_pipe 65 = .ok (.iload_n 2, 1) := dk_28 (dk_at dksX6_pipe_2 21 rfl rfl)
theorem dX6_pipe_66 : decode cX6_pipe 66 = .ok (.iload_n 1, 1) := dk_27 (dk_at dksX6_pipe_2 22 rfl rfl)
theorem dX6_pipe_67 : decode cX6_pipe 67 = .ok (.if_icmp .eq 19, 3) := dk_159 0 19 (dk_at dksX6_pipe_3 0 rfl rfl)
theorem dX6_pipe_70 : decode cX6_pipe 70 = .ok (.aload_n 0, 1) := dk_42 (dk_at dksX6_pipe_3 3 rfl rfl)
theorem dX6_pipe_71 : decode cX6_pipe 71 = .ok (.getfield 20, 3) := dk_180 0 20 (dk_at dksX6_pipe_3 4 rfl rfl)
theorem dX6_pipe_74 : decode cX6_pipe 74 = .ok (.iload_n 1, 1) := dk_27 (dk_at dksX6_pipe_3 7 rfl rfl)
theorem dX6_pipe_75 : decode cX6_pipe 75 = .ok (.iload_n 2, 1) := dk_28 (dk_at dksX6_pipe_3 8 rfl rfl)
theorem dX6_pipe_76 : decode cX6_pipe 76 = .ok (.invokevirtual 132, 3) := dk_182 0 132 (dk_at dksX6_pipe_3 9 rfl rfl)
theorem dX6_pipe_79 : decode cX6_pipe 79 = .ok (.ifnonnull 7, 3) := dk_199 0 7 (dk_at dksX6_pipe_3 12 rfl rfl)
theorem dX6_pipe_82 : decode cX6_pipe 82 = .ok (.iconst 1, 1) := dk_4 (dk_at dksX6_pipe_3 15 rfl rfl)
theorem dX6_pipe_83 : decode cX6_pipe 83 = .ok (.goto 4, 3) := dk_167 0 4 (dk_at dksX6_pipe_3 16 rfl rfl)
theorem dX6_pipe_86 : decode cX6_pipe 86 = .ok (.iconst 0, 1) := dk_3 (dk_at dksX6_pipe_3 19 rfl rfl)
theorem dX6_pipe_87 : decode cX6_pipe 87 = .ok (.iconst 3, 1) := dk_6 (dk_at dksX6_pipe_3 20 rfl rfl)
theorem dX6_pipe_88 : decode cX6_pipe 88 = .ok (.invokevirtual 45, 3) := dk_182 0 45 (dk_at dksX6_pipe_3 21 rfl rfl)
theorem dX6_pipe_91 : decode cX6_pipe 91 = .ok (.aload_n 0, 1) := dk_42 (dk_at dksX6_pipe_4 0 rfl rfl)
theorem dX6_pipe_92 : decode cX6_pipe 92 = .ok (.iload_n 2, 1) := dk_28 (dk_at dksX6_pipe_4 1 rfl rfl)
theorem dX6_pipe_93 : decode cX6_pipe 93 = .ok (.iconst (-1), 1) := dk_2 (dk_at dksX6_pipe_4 2 rfl rfl)
theorem dX6_pipe_94 : decode cX6_pipe 94 = .ok (.if_icmp .eq 7, 3) := dk_159 0 7 (dk_at dksX6_pipe_4 3 rfl rfl)
theorem dX6_pipe_97 : decode cX6_pipe 97 = .ok (.iconst 1, 1) := dk_4 (dk_at dksX6_pipe_4 6 rfl rfl)
theorem dX6_pipe_98 : decode cX6_pipe 98 = .ok (.goto 4, 3) := dk_167 0 4 (dk_at dksX6_pipe_4 7 rfl rfl)
theorem dX6_pipe_101 : decode cX6_pipe 101 = .ok (.iconst 0, 1) := dk_3 (dk_at dksX6_pipe_4 10 rfl rfl)
theorem dX6_pipe_102 : decode cX6_pipe 102 = .ok (.iconst 5, 1) := dk_8 (dk_at dksX6_pipe_4 11 rfl rfl)
theorem dX6_pipe_103 : decode cX6_pipe 103 = .ok (.invokevirtual 45, 3) := dk_182 0 45 (dk_at dksX6_pipe_4 12 rfl rfl)
theorem dX6_pipe_106 : decode cX6_pipe 106 = .ok (.aload_n 0, 1) := dk_42 (dk_at dksX6_pipe_4 15 rfl rfl)
theorem dX6_pipe_107 : decode cX6_pipe 107 = .ok (.invokevirtual 49, 3) := dk_182 0 49 (dk_at dksX6_pipe_4 16 rfl rfl)
theorem dX6_pipe_110 : decode cX6_pipe 110 = .ok (.aload_n 0, 1) := dk_42 (dk_at dksX6_pipe_4 19 rfl rfl)
theorem dX6_pipe_111 : decode cX6_pipe 111 = .ok (.iconst 1, 1) := dk_4 (dk_at dksX6_pipe_4 20 rfl rfl)
theorem dX6_pipe_112 : decode cX6_pipe 112 = .ok (.bipush 12, 2) := dk_16 12 (dk_at dksX6_pipe_4 21 rfl rfl)
theorem dX6_pipe_114 : decode cX6_pipe 114 = .ok (.invokevirtual 136, 3) := dk_182 0 136 (dk_at dksX6_pipe_5 0 rfl rfl)
theorem dX6_pipe_117 : decode cX6_pipe 117 = .ok (.istore_n 3, 1) := dk_62 (dk_at dksX6_pipe_5 3 rfl rfl)
theorem dX6_pipe_118 : decode cX6_pipe 118 = .ok (.aload_n 0, 1) := dk_42 (dk_at dksX6_pipe_5 4 rfl rfl)
theorem dX6_pipe_119 : decode cX6_pipe 119 = .ok (.bipush 12, 2) := dk_16 12 (dk_at dksX6_pipe_5 5 rfl rfl)
theorem dX6_pipe_121 : decode cX6_pipe 121 = .ok (.iload_n 3, 1) := dk_29 (dk_at dksX6_pipe_5 7 rfl rfl)
theorem dX6_pipe_122 : decode cX6_pipe 122 = .ok (.irem, 1) := dk_112 (dk_at dksX6_pipe_5 8 rfl rfl)
theorem dX6_pipe_123 : decode cX6_pipe 123 = .ok (.ifCond .ne 7, 3) := dk_154 0 7 (dk_at dksX6_pipe_5 9 rfl rfl)
theorem dX6_pipe_126 : decode cX6_pipe 126 = .ok (.iconst 1, 1) := dk_4 (dk_at dksX6_pipe_5 12 rfl rfl)
theorem dX6_pipe_127 : decode cX6_pipe 127 = .ok (.goto 4, 3) := dk_167 0 4 (dk_at dksX6_pipe_5 13 rfl rfl)
theorem dX6_pipe_130 : decode cX6_pipe 130 = .ok (.iconst 0, 1) := dk_3 (dk_at dksX6_pipe_5 16 rfl rfl)
theorem dX6_pipe_131 : decode cX6_pipe 131 = .ok (.iconst 2, 1) := dk_5 (dk_at dksX6_pipe_5 17 rfl rfl)
theorem dX6_pipe_132 : decode cX6_pipe 132 = .ok (.invokevirtual 45, 3) := dk_182 0 45 (dk_at dksX6_pipe_5 18 rfl rfl)
theorem dX6_pipe_135 : decode cX6_pipe 135 = .ok (.aload_n 0, 1) := dk_42 (dk_at dksX6_pipe_5 21 rfl rfl)
theorem dX6_pipe_136 : decode cX6_pipe 136 = .ok (.getfield 20, 3) := dk_180 0 20 (dk_at dksX6_pipe_6 0 rfl rfl)
theorem dX6_pipe_139 : decode cX6_pipe 139 = .ok (.getfield 123, 3) := dk_180 0 123 (dk_at dksX6_pipe_6 3 rfl rfl)
theorem dX6_pipe_142 : decode cX6_pipe 142 = .ok (.new 139, 3) := dk_187 0 139 (dk_at dksX6_pipe_6 6 rfl rfl)
theorem dX6_pipe_145 : decode cX6_pipe 145 = .ok (.dup, 1) := dk_89 (dk_at dksX6_pipe_6 9 rfl rfl)
theorem dX6_pipe_146 : decode cX6_pipe 146 = .ok (.aload_n 0, 1) := dk_42 (dk_at dksX6_pipe_6 10 rfl rfl)
theorem dX6_pipe_147 : decode cX6_pipe 147 = .ok (.getfield 20, 3) := dk_180 0 20 (dk_at dksX6_pipe_6 11 rfl rfl)
theorem dX6_pipe_150 : decode cX6_pipe 150 = .ok (.getfield 123, 3) := dk_180 0 123 (dk_at dksX6_pipe_6 14 rfl rfl)
theorem dX6_pipe_153 : decode cX6_pipe 153 = .ok (.invokevirtual 127, 3) := dk_182 0 127 (dk_at dksX6_pipe_6 17 rfl rfl)
theorem dX6_pipe_156 : decode cX6_pipe 156 = .ok (.iload_n 1, 1) := dk_27 (dk_at dksX6_pipe_6 20 rfl rfl)
theorem dX6_pipe_157 : decode cX6_pipe 157 = .ok (.iload_n 2, 1) := dk_28 (dk_at dksX6_pipe_6 21 rfl rfl)
theorem dX6_pipe_158 : decode cX6_pipe 158 = .ok (.iload_n 3, 1) := dk_29 (dk_at dksX6_pipe_6 22 rfl rfl)
theorem dX6_pipe_159 : decode cX6_pipe 159 = .ok (.invokespecial 141, 3) := dk_183 0 141 (dk_at dksX6_pipe_7 0 rfl rfl)
theorem dX6_pipe_162 : decode cX6_pipe 162 = .ok (.invokevirtual 144, 3) := dk_182 0 144 (dk_at dksX6_pipe_7 3 rfl rfl)
theorem dX6_pipe_165 : decode cX6_pipe 165 = .ok (.pop, 1) := dk_87 (dk_at dksX6_pipe_7 6 rfl rfl)
theorem dX6_pipe_166 : decode cX6_pipe 166 = .ok (.aload_n 0, 1) := dk_42 (dk_at dksX6_pipe_7 7 rfl rfl)
theorem dX6_pipe_167 : decode cX6_pipe 167 = .ok (.invokevirtual 49, 3) := dk_182 0 49 (dk_at dksX6_pipe_7 8 rfl rfl)
theorem dX6_pipe_170 : decode cX6_pipe 170 = .ok (.return_, 1) := dk_177 (dk_at dksX6_pipe_7 11 rfl rfl)
abbrev cX6_spotHere : ByteArray := prog_4_method_6_code
def yX6_spotHere : MethodName := ⟨RX6, "spotHere", "()I"⟩
def dkwX6_spotHere_1 : List UInt8 := [159, 0, 7, 4, 167, 0, 4, 3, 8, 182, 0, 45, 27, 172]
abbrev dktX6_spotHere_1 : List UInt8 := dkwX6_spotHere_1 ++ []
def dkwX6_spotHere_0 : List UInt8 := [42, 42, 182, 0, 108, 4, 182, 0, 45, 42, 180, 0, 20, 42, 182, 0, 111, 182, 0, 115, 60, 42, 27, 2]
abbrev dktX6_spotHere_0 : List UInt8 := dkwX6_spotHere_0 ++ dktX6_spotHere_1
theorem dksX6_spotHere_0 : cX6_spotHere.data.toList.drop 0 = dktX6_spotHere_0 := by decide +kernel
theorem dksX6_spotHere_1 : cX6_spotHere.data.toList.drop 24 = dktX6_spotHere_1 := dk_seg dksX6_spotHere_0 24 rfl rfl
theorem dX6_spotHere_0 : decode cX6_spotHere 0 = .ok (.aload_n 0, 1) := dk_42 (dk_at dksX6_spotHere_0 0 rfl rfl)
theorem dX6_spotHere_1 : decode cX6_spotHere 1 = .ok (.aload_n 0, 1) := dk_42 (dk_at dksX6_spotHere_0 1 rfl rfl)
theorem dX6_spotHere_2 : decode cX6_spotHere 2 = .ok (.invokevirtual 108, 3) := dk_182 0 108 (dk_at dksX6_spotHere_0 2 rfl rfl)
theorem dX6_spotHere_5 : decode cX6_spotHere 5 = .ok (.iconst 1, 1) := dk_4 (dk_at dksX6_spotHere_0 5 rfl rfl)
theorem dX6_spotHere_6 : decode cX6_spotHere 6 = .ok (.invokevirtual 45, 3) := dk_182 0 45 (dk_at dksX6_spotHere_0 6 rfl rfl)
theorem dX6_spotHere_9 : decode cX6_spotHere 9 = .ok (.aload_n 0, 1) := dk_42 (dk_at dksX6_spotHere_0 9 rfl rfl)
theorem dX6_spotHere_10 : decode cX6_spotHere 10 = .ok (.getfield 20, 3) := dk_180 0 20 (dk_at dksX6_spotHere_0 10 rfl rfl)
theorem dX6_spotHere_13 : decode cX6_spotHere 13 = .ok (.aload_n 0, 1) := dk_42 (dk_at dksX6_spotHere_0 13 rfl rfl)
theorem dX6_spotHere_14 : decode cX6_spotHere 14 = .ok (.invokevirtual 111, 3) := dk_182 0 111 (dk_at dksX6_spotHere_0 14 rfl rfl)
theorem dX6_spotHere_17 : decode cX6_spotHere 17 = .ok (.invokevirtual 115, 3) := dk_182 0 115 (dk_at dksX6_spotHere_0 17 rfl rfl)
theorem dX6_spotHere_20 : decode cX6_spotHere 20 = .ok (.istore_n 1, 1) := dk_60 (dk_at dksX6_spotHere_0 20 rfl rfl)
theorem dX6_spotHere_21 : decode cX6_spotHere 21 = .ok (.aload_n 0, 1) := dk_42 (dk_at dksX6_spotHere_0 21 rfl rfl)
theorem dX6_spotHere_22 : decode cX6_spotHere 22 = .ok (.iload_n 1, 1) := dk_27 (dk_at dksX6_spotHere_0 22 rfl rfl)
theorem dX6_spotHere_23 : decode cX6_spotHere 23 = .ok (.iconst (-1), 1) := dk_2 (dk_at dksX6_spotHere_0 23 rfl rfl)
theorem dX6_spotHere_24 : decode cX6_spotHere 24 = .ok (.if_icmp .eq 7, 3) := dk_159 0 7 (dk_at dksX6_spotHere_1 0 rfl rfl)
theorem dX6_spotHere_27 : decode cX6_spotHere 27 = .ok (.iconst 1, 1) := dk_4 (dk_at dksX6_spotHere_1 3 rfl rfl)
theorem dX6_spotHere_28 : decode cX6_spotHere 28 = .ok (.goto 4, 3) := dk_167 0 4 (dk_at dksX6_spotHere_1 4 rfl rfl)
theorem dX6_spotHere_31 : decode cX6_spotHere 31 = .ok (.iconst 0, 1) := dk_3 (dk_at dksX6_spotHere_1 7 rfl rfl)
theorem dX6_spotHere_32 : decode cX6_spotHere 32 = .ok (.iconst 5, 1) := dk_8 (dk_at dksX6_spotHere_1 8 rfl rfl)
theorem dX6_spotHere_33 : decode cX6_spotHere 33 = .ok (.invokevirtual 45, 3) := dk_182 0 45 (dk_at dksX6_spotHere_1 9 rfl rfl)
theorem dX6_spotHere_36 : decode cX6_spotHere 36 = .ok (.iload_n 1, 1) := dk_27 (dk_at dksX6_spotHere_1 12 rfl rfl)
theorem dX6_spotHere_37 : decode cX6_spotHere 37 = .ok (.ireturn, 1) := dk_172 (dk_at dksX6_spotHere_1 13 rfl rfl)
abbrev cX6_salt : ByteArray := prog_4_method_8_code
def yX6_salt : MethodName := ⟨RX6, "salt", "()V"⟩
def dkwX6_salt_4 : List UInt8 := [182, 0, 49, 177]
abbrev dktX6_salt_4 : List UInt8 := dkwX6_salt_4 ++ []
def dkwX6_salt_3 : List UInt8 := [182, 0, 45, 42, 45, 198, 0, 7, 4, 167, 0, 4, 3, 8, 182, 0, 45, 45, 4, 181, 0, 148, 42]
abbrev dktX6_salt_3 : List UInt8 := dkwX6_salt_3 ++ dktX6_salt_4
def dkwX6_salt_2 : List UInt8 := [182, 0, 132, 78, 42, 45, 198, 0, 10, 45, 180, 0, 148, 154, 0, 7, 4, 167, 0, 4, 3, 6]
abbrev dktX6_salt_2 : List UInt8 := dkwX6_salt_2 ++ dktX6_salt_3
def dkwX6_salt_1 : List UInt8 := [182, 0, 111, 182, 0, 115, 61, 28, 2, 160, 0, 7, 1, 167, 0, 12, 42, 180, 0, 20, 27, 28]
abbrev dktX6_salt_1 : List UInt8 := dkwX6_salt_1 ++ dktX6_salt_2
def dkwX6_salt_0 : List UInt8 := [42, 182, 0, 62, 60, 42, 182, 0, 49, 42, 42, 182, 0, 108, 4, 182, 0, 45, 42, 180, 0, 20, 42]
abbrev dktX6_salt_0 : List UInt8 := dkwX6_salt_0 ++ dktX6_salt_1
theorem dksX6_salt_0 : cX6_salt.data.toList.drop 0 = dktX6_salt_0 := by decide +kernel
theorem dksX6_salt_1 : cX6_salt.data.toList.drop 23 = dktX6_salt_1 := dk_seg dksX6_salt_0 23 rfl rfl
theorem dksX6_salt_2 : cX6_salt.data.toList.drop 45 = dktX6_salt_2 := dk_seg dksX6_salt_1 22 rfl rfl
theorem dksX6_salt_3 : cX6_salt.data.toList.drop 67 = dktX6_salt_3 := dk_seg dksX6_salt_2 22 rfl rfl
theorem dksX6_salt_4 : cX6_salt.data.toList.drop 90 = dktX6_salt_4 := dk_seg dksX6_salt_3 23 rfl rfl
theorem dX6_salt_0 : decode cX6_salt 0 = .ok (.aload_n 0, 1) := dk_42 (dk_at dksX6_salt_0 0 rfl rfl)
theorem dX6_salt_1 : decode cX6_salt 1 = .ok (.invokevirtual 62, 3) := dk_182 0 62 (dk_at dksX6_salt_0 1 rfl rfl)
theorem dX6_salt_4 : decode cX6_salt 4 = .ok (.istore_n 1, 1) := dk_60 (dk_at dksX6_salt_0 4 rfl rfl)
theorem dX6_salt_5 : decode cX6_salt 5 = .ok (.aload_n 0, 1) := dk_42 (dk_at dksX6_salt_0 5 rfl rfl)
theorem dX6_salt_6 : decode cX6_salt 6 = .ok (.invokevirtual 49, 3) := dk_182 0 49 (dk_at dksX6_salt_0 6 rfl rfl)
theorem dX6_salt_9 : decode cX6_salt 9 = .ok (.aload_n 0, 1) := dk_42 (dk_at dksX6_salt_0 9 rfl rfl)
theorem dX6_salt_10 : decode cX6_salt 10 = .ok (.aload_n 0, 1) := dk_42 (dk_at dksX6_salt_0 10 rfl rfl)
theorem dX6_salt_11 : decode cX6_salt 11 = .ok (.invokevirtual 108, 3) := dk_182 0 108 (dk_at dksX6_salt_0 11 rfl rfl)
theorem dX6_salt_14 : decode cX6_salt 14 = .ok (.iconst 1, 1) := dk_4 (dk_at dksX6_salt_0 14 rfl rfl)
theorem dX6_salt_15 : decode cX6_salt 15 = .ok (.invokevirtual 45, 3) := dk_182 0 45 (dk_at dksX6_salt_0 15 rfl rfl)
theorem dX6_salt_18 : decode cX6_salt 18 = .ok (.aload_n 0, 1) := dk_42 (dk_at dksX6_salt_0 18 rfl rfl)
theorem dX6_salt_19 : decode cX6_salt 19 = .ok (.getfield 20, 3) := dk_180 0 20 (dk_at dksX6_salt_0 19 rfl rfl)
theorem dX6_salt_22 : decode cX6_salt 22 = .ok (.aload_n 0, 1) := dk_42 (dk_at dksX6_salt_0 22 rfl rfl)
theorem dX6_salt_23 : decode cX6_salt 23 = .ok (.invokevirtual 111, 3) := dk_182 0 111 (dk_at dksX6_salt_1 0 rfl rfl)
theorem dX6_salt_26 : decode cX6_salt 26 = .ok (.invokevirtual 115, 3) := dk_182 0 115 (dk_at dksX6_salt_1 3 rfl rfl)
theorem dX6_salt_29 : decode cX6_salt 29 = .ok (.istore_n 2, 1) := dk_61 (dk_at dksX6_salt_1 6 rfl rfl)
theorem dX6_salt_30 : decode cX6_salt 30 = .ok (.iload_n 2, 1) := dk_28 (dk_at dksX6_salt_1 7 rfl rfl)
theorem dX6_salt_31 : decode cX6_salt 31 = .ok (.iconst (-1), 1) := dk_2 (dk_at dksX6_salt_1 8 rfl rfl)
theorem dX6_salt_32 : decode cX6_salt 32 = .ok (.if_icmp .ne 7, 3) := dk_160 0 7 (dk_at dksX6_salt_1 9 rfl rfl)
theorem dX6_salt_35 : decode cX6_salt 35 = .ok (.aconst_null, 1) := dk_1 (dk_at dksX6_salt_1 12 rfl rfl)
theorem dX6_salt_36 : decode cX6_salt 36 = .ok (.goto 12, 3) := dk_167 0 12 (dk_at dksX6_salt_1 13 rfl rfl)
theorem dX6_salt_39 : decode cX6_salt 39 = .ok (.aload_n 0, 1) := dk_42 (dk_at dksX6_salt_1 16 rfl rfl)
theorem dX6_salt_40 : decode cX6_salt 40 = .ok (.getfield 20, 3) := dk_180 0 20 (dk_at dksX6_salt_1 17 rfl rfl)
theorem dX6_salt_43 : decode cX6_salt 43 = .ok (.iload_n 1, 1) := dk_27 (dk_at dksX6_salt_1 20 rfl rfl)
theorem dX6_salt_44 : decode cX6_salt 44 = .ok (.iload_n 2, 1) := dk_28 (dk_at dksX6_salt_1 21 rfl rfl)
theorem dX6_salt_45 : decode cX6_salt 45 = .ok (.invokevirtual 132, 3) := dk_182 0 132 (dk_at dksX6_salt_2 0 rfl rfl)
theorem dX6_salt_48 : decode cX6_salt 48 = .ok (.astore_n 3, 1) := dk_78 (dk_at dksX6_salt_2 3 rfl rfl)
theorem dX6_salt_49 : decode cX6_salt 49 = .ok (.aload_n 0, 1) := dk_42 (dk_at dksX6_salt_2 4 rfl rfl)
theorem dX6_salt_50 : decode cX6_salt 50 = .ok (.aload_n 3, 1) := dk_45 (dk_at dksX6_salt_2 5 rfl rfl)
theorem dX6_salt_51 : decode cX6_salt 51 = .ok (.ifnull 10, 3) := dk_198 0 10 (dk_at dksX6_salt_2 6 rfl rfl)
theorem dX6_salt_54 : decode cX6_salt 54 = .ok (.aload_n 3, 1) := dk_45 (dk_at dksX6_salt_2 9 rfl rfl)
theorem dX6_salt_55 : decode cX6_salt 55 = .ok (.getfield 148, 3) := dk_180 0 148 (dk_at dksX6_salt_2 10 rfl rfl)
theorem dX6_salt_58 : decode cX6_salt 58 = .ok (.ifCond .ne 7, 3) := dk_154 0 7 (dk_at dksX6_salt_2 13 rfl rfl)
theorem dX6_salt_61 : decode cX6_salt 61 = .ok (.iconst 1, 1) := dk_4 (dk_at dksX6_salt_2 16 rfl rfl)
theorem dX6_salt_62 : decode cX6_salt 62 = .ok (.goto 4, 3) := dk_167 0 4 (dk_at dksX6_salt_2 17 rfl rfl)
theorem dX6_salt_65 : decode cX6_salt 65 = .ok (.iconst 0, 1) := dk_3 (dk_at dksX6_salt_2 20 rfl rfl)
theorem dX6_salt_66 : decode cX6_salt 66 = .ok (.iconst 3, 1) := dk_6 (dk_at dksX6_salt_2 21 rfl rfl)
theorem dX6_salt_67 : decode cX6_salt 67 = .ok (.invokevirtual 45, 3) := dk_182 0 45 (dk_at dksX6_salt_3 0 rfl rfl)
theorem dX6_salt_70 : decode cX6_salt 70 = .ok (.aload_n 0, 1) := dk_42 (dk_at dksX6_salt_3 3 rfl rfl)
theorem dX6_salt_71 : decode cX6_salt 71 = .ok (.aload_n 3, 1) := dk_45 (dk_at dksX6_salt_3 4 rfl rfl)
theorem dX6_salt_72 : decode cX6_salt 72 = .ok (.ifnull 7, 3) := dk_198 0 7 (dk_at dksX6_salt_3 5 rfl rfl)
theorem dX6_salt_75 : decode cX6_salt 75 = .ok (.iconst 1, 1) := dk_4 (dk_at dksX6_salt_3 8 rfl rfl)
theorem dX6_salt_76 : decode cX6_salt 76 = .ok (.goto 4, 3) := dk_167 0 4 (dk_at dksX6_salt_3 9 rfl rfl)
theorem dX6_salt_79 : decode cX6_salt 79 = .ok (.iconst 0, 1) := dk_3 (dk_at dksX6_salt_3 12 rfl rfl)
theorem dX6_salt_80 : decode cX6_salt 80 = .ok (.iconst 5, 1) := dk_8 (dk_at dksX6_salt_3 13 rfl rfl)
theorem dX6_salt_81 : decode cX6_salt 81 = .ok (.invokevirtual 45, 3) := dk_182 0 45 (dk_at dksX6_salt_3 14 rfl rfl)
theorem dX6_salt_84 : decode cX6_salt 84 = .ok (.aload_n 3, 1) := dk_45 (dk_at dksX6_salt_3 17 rfl rfl)
theorem dX6_salt_85 : decode cX6_salt 85 = .ok (.iconst 1, 1) := dk_4 (dk_at dksX6_salt_3 18 rfl rfl)
theorem dX6_salt_86 : decode cX6_salt 86 = .ok (.putfield 148, 3) := dk_181 0 148 (dk_at dksX6_salt_3 19 rfl rfl)
theorem dX6_salt_89 : decode cX6_salt 89 = .ok (.aload_n 0, 1) := dk_42 (dk_at dksX6_salt_3 22 rfl rfl)
theorem dX6_salt_90 : decode cX6_salt 90 = .ok (.invokevirtual 49, 3) := dk_182 0 49 (dk_at dksX6_salt_4 0 rfl rfl)
theorem dX6_salt_93 : decode cX6_salt 93 = .ok (.return_, 1) := dk_177 (dk_at dksX6_salt_4 3 rfl rfl)
abbrev cX6_begins : ByteArray := prog_4_method_3_code
def yX6_begins : MethodName := ⟨RX6, "begins", "(Ljava/lang/String;I)Z"⟩
def dkwX6_begins_2 : List UInt8 := [4, 172]
abbrev dktX6_begins_2 : List UInt8 := dkwX6_begins_2 ++ []
def dkwX6_begins_1 : List UInt8 := [167, 0, 4, 3, 6, 182, 0, 45, 42, 89, 180, 0, 42, 4, 28, 120, 128, 181, 0, 42, 42, 182, 0, 49]
abbrev dktX6_begins_1 : List UInt8 := dkwX6_begins_1 ++ dktX6_begins_2
def dkwX6_begins_0 : List UInt8 := [42, 43, 182, 0, 38, 154, 0, 5, 3, 172, 42, 42, 180, 0, 42, 28, 122, 4, 126, 154, 0, 7, 4]
abbrev dktX6_begins_0 : List UInt8 := dkwX6_begins_0 ++ dktX6_begins_1
theorem dksX6_begins_0 : cX6_begins.data.toList.drop 0 = dktX6_begins_0 := by decide +kernel
theorem dksX6_begins_1 : cX6_begins.data.toList.drop 23 = dktX6_begins_1 := dk_seg dksX6_begins_0 23 rfl rfl
theorem dksX6_begins_2 : cX6_begins.data.toList.drop 47 = dktX6_begins_2 := dk_seg dksX6_begins_1 24 rfl rfl
theorem dX6_begins_0 : decode cX6_begins 0 = .ok (.aload_n 0, 1) := dk_42 (dk_at dksX6_begins_0 0 rfl rfl)
theorem dX6_begins_1 : decode cX6_begins 1 = .ok (.aload_n 1, 1) := dk_43 (dk_at dksX6_begins_0 1 rfl rfl)
theorem dX6_begins_2 : decode cX6_begins 2 = .ok (.invokevirtual 38, 3) := dk_182 0 38 (dk_at dksX6_begins_0 2 rfl rfl)
theorem dX6_begins_5 : decode cX6_begins 5 = .ok (.ifCond .ne 5, 3) := dk_154 0 5 (dk_at dksX6_begins_0 5 rfl rfl)
theorem dX6_begins_8 : decode cX6_begins 8 = .ok (.iconst 0, 1) := dk_3 (dk_at dksX6_begins_0 8 rfl rfl)
theorem dX6_begins_9 : decode cX6_begins 9 = .ok (.ireturn, 1) := dk_172 (dk_at dksX6_begins_0 9 rfl rfl)
theorem dX6_begins_10 : decode cX6_begins 10 = .ok (.aload_n 0, 1) := dk_42 (dk_at dksX6_begins_0 10 rfl rfl)
theorem dX6_begins_11 : decode cX6_begins 11 = .ok (.aload_n 0, 1) := dk_42 (dk_at dksX6_begins_0 11 rfl rfl)
theorem dX6_begins_12 : decode cX6_begins 12 = .ok (.getfield 42, 3) := dk_180 0 42 (dk_at dksX6_begins_0 12 rfl rfl)
theorem dX6_begins_15 : decode cX6_begins 15 = .ok (.iload_n 2, 1) := dk_28 (dk_at dksX6_begins_0 15 rfl rfl)
theorem dX6_begins_16 : decode cX6_begins 16 = .ok (.ishr, 1) := dk_122 (dk_at dksX6_begins_0 16 rfl rfl)
theorem dX6_begins_17 : decode cX6_begins 17 = .ok (.iconst 1, 1) := dk_4 (dk_at dksX6_begins_0 17 rfl rfl)
theorem dX6_begins_18 : decode cX6_begins 18 = .ok (.iand, 1) := dk_126 (dk_at dksX6_begins_0 18 rfl rfl)
theorem dX6_begins_19 : decode cX6_begins 19 = .ok (.ifCond .ne 7, 3) := dk_154 0 7 (dk_at dksX6_begins_0 19 rfl rfl)
theorem dX6_begins_22 : decode cX6_begins 22 = .ok (.iconst 1, 1) := dk_4 (dk_at dksX6_begins_0 22 rfl rfl)
theorem dX6_begins_23 : decode cX6_begins 23 = .ok (.goto 4, 3) := dk_167 0 4 (dk_at dksX6_begins_1 0 rfl rfl)
theorem dX6_begins_26 : decode cX6_begins 26 = .ok (.iconst 0, 1) := dk_3 (dk_at dksX6_begins_1 3 rfl rfl)
theorem dX6_begins_27 : decode cX6_begins 27 = .ok (.iconst 3, 1) := dk_6 (dk_at dksX6_begins_1 4 rfl rfl)
theorem dX6_begins_28 : decode cX6_begins 28 = .ok (.invokevirtual 45, 3) := dk_182 0 45 (dk_at dksX6_begins_1 5 rfl rfl)
theorem dX6_begins_31 : decode cX6_begins 31 = .ok (.aload_n 0, 1) := dk_42 (dk_at dksX6_begins_1 8 rfl rfl)
theorem dX6_begins_32 : decode cX6_begins 32 = .ok (.dup, 1) := dk_89 (dk_at dksX6_begins_1 9 rfl rfl)
theorem dX6_begins_33 : decode cX6_begins 33 = .ok (.getfield 42, 3) := dk_180 0 42 (dk_at dksX6_begins_1 10 rfl rfl)
theorem dX6_begins_36 : decode cX6_begins 36 = .ok (.iconst 1, 1) := dk_4 (dk_at dksX6_begins_1 13 rfl rfl)
theorem dX6_begins_37 : decode cX6_begins 37 = .ok (.iload_n 2, 1) := dk_28 (dk_at dksX6_begins_1 14 rfl rfl)
theorem dX6_begins_38 : decode cX6_begins 38 = .ok (.ishl, 1) := dk_120 (dk_at dksX6_begins_1 15 rfl rfl)
theorem dX6_begins_39 : decode cX6_begins 39 = .ok (.ior, 1) := dk_128 (dk_at dksX6_begins_1 16 rfl rfl)
theorem dX6_begins_40 : decode cX6_begins 40 = .ok (.putfield 42, 3) := dk_181 0 42 (dk_at dksX6_begins_1 17 rfl rfl)
theorem dX6_begins_43 : decode cX6_begins 43 = .ok (.aload_n 0, 1) := dk_42 (dk_at dksX6_begins_1 20 rfl rfl)
theorem dX6_begins_44 : decode cX6_begins 44 = .ok (.invokevirtual 49, 3) := dk_182 0 49 (dk_at dksX6_begins_1 21 rfl rfl)
theorem dX6_begins_47 : decode cX6_begins 47 = .ok (.iconst 1, 1) := dk_4 (dk_at dksX6_begins_2 0 rfl rfl)
theorem dX6_begins_48 : decode cX6_begins 48 = .ok (.ireturn, 1) := dk_172 (dk_at dksX6_begins_2 1 rfl rfl)
theorem q82 : (Jvm.Cond.initialized "SlimeNet$PlateReader") ∈ lw_all := lw_g (lw_at lw_m1 13 rfl) rfl
theorem q203 : (Jvm.Cond.fieldLinkNest "SlimeNet$PlateReader" (119 : Nat) "SlimeNet$Plate" "names" "[J" "SlimeNet") ∈ lw_tbl := lw_at lw_m1 134 rfl
theorem q206 : (Jvm.Cond.fieldLinkNest "SlimeNet$PlateReader" (123 : Nat) "SlimeNet$Plate" "pipes" "Ljava/util/ArrayList;" "SlimeNet") ∈ lw_tbl := lw_at lw_m1 137 rfl
theorem q209 : (Jvm.Cond.fieldLinkNest "SlimeNet$PlateReader" (70 : Nat) "SlimeNet$Plate" "flakes" "[I" "SlimeNet") ∈ lw_tbl := lw_at lw_m1 140 rfl
theorem q214 : (Jvm.Cond.fieldLinkNest "SlimeNet$PlateReader" (105 : Nat) "SlimeNet$Plate" "spotMany" "I" "SlimeNet") ∈ lw_tbl := lw_at lw_m1 145 rfl
theorem q218 : (Jvm.Cond.fieldLinkNest "SlimeNet$PlateReader" (74 : Nat) "SlimeNet$Plate" "flakeMany" "I" "SlimeNet") ∈ lw_tbl := lw_at lw_m1 149 rfl
theorem q223 : (Jvm.Cond.fieldLinkNest "SlimeNet$PlateReader" (91 : Nat) "SlimeNet$Plate" "up" "I" "SlimeNet") ∈ lw_tbl := lw_at lw_m1 154 rfl
theorem q226 : (Jvm.Cond.fieldLinkNest "SlimeNet$PlateReader" (94 : Nat) "SlimeNet$Plate" "down" "I" "SlimeNet") ∈ lw_tbl := lw_at lw_m1 157 rfl
theorem q229 : (Jvm.Cond.fieldLinkNest "SlimeNet$PlateReader" (99 : Nat) "SlimeNet$Plate" "width" "I" "SlimeNet") ∈ lw_tbl := lw_at lw_m1 160 rfl
theorem q231 : (Jvm.Cond.fieldLinkNest "SlimeNet$PlateReader" (103 : Nat) "SlimeNet$Plate" "learn" "I" "SlimeNet") ∈ lw_tbl := lw_at lw_m1 162 rfl
theorem q234 : (Jvm.Cond.fieldLinkNest "SlimeNet$PlateReader" (34 : Nat) "SlimeNet$Plate" "clauses" "I" "SlimeNet") ∈ lw_tbl := lw_at lw_m1 165 rfl
theorem q436 : (Jvm.Cond.instantiable "SlimeNet$PlateReader" (9 : Nat)) ∈ lw_all := lw_g (lw_at lw_m2 127 rfl) rfl
theorem q438 : (Jvm.Cond.instanceMethod ({ cls := "SlimeNet$PlateReader", name := "<init>", desc := "(LSlimeNet;I)V" } : Jvm.MethodName)) ∈ lw_all := lw_g (lw_at lw_m2 129 rfl) rfl
theorem q439 : (Jvm.Cond.code ({ cls := "SlimeNet$PlateReader", name := "<init>", desc := "(LSlimeNet;I)V" } : Jvm.MethodName) prog_4_method_1_code (3 : Nat) (Option.none : Option Jvm.ClassFile.FieldType)) ∈ lw_all := lw_g (lw_at lw_m2 130 rfl) rfl
theorem q440 : (Jvm.Cond.methodLink "SlimeNet$PlateReader" (9 : Nat) ({ cls := "SlimeNet$Reader", name := "<init>", desc := "(LSlimeNet;I)V" } : Jvm.MethodName)) ∈ lw_all := lw_g (lw_at lw_m2 131 rfl) rfl
theorem q447 : (Jvm.Cond.selects "SlimeNet$PlateReader" ({ cls := "SlimeNet$Reader", name := "goOn", desc := "()V" } : Jvm.MethodName) ({ cls := "SlimeNet$Reader", name := "goOn", desc := "()V" } : Jvm.MethodName)) ∈ lw_all := lw_g (lw_at lw_m2 138 rfl) rfl
theorem q462 : (Jvm.Cond.classLink "SlimeNet$PlateReader" (15 : Nat) "SlimeNet$Plate") ∈ lw_all := lw_g (lw_at lw_m2 153 rfl) rfl
theorem q463 : (Jvm.Cond.methodLinkNest "SlimeNet$PlateReader" (17 : Nat) ({ cls := "SlimeNet$Plate", name := "<init>", desc := "()V" } : Jvm.MethodName) "SlimeNet") ∈ lw_tbl := lw_at lw_m2 154 rfl
theorem q464 : (Jvm.Cond.fieldLink "SlimeNet$PlateReader" (20 : Nat) "SlimeNet$PlateReader" "made" "LSlimeNet$Plate;") ∈ lw_all := lw_g (lw_at lw_m2 155 rfl) rfl
theorem q465 : (Jvm.Cond.fieldLink "SlimeNet$PlateReader" (42 : Nat) "SlimeNet$PlateReader" "told" "I") ∈ lw_all := lw_g (lw_at lw_m2 156 rfl) rfl
theorem q466 : (Jvm.Cond.fieldLink "SlimeNet$PlateReader" (3 : Nat) "SlimeNet$PlateReader" "this$0" "LSlimeNet;") ∈ lw_all := lw_g (lw_at lw_m2 157 rfl) rfl
theorem q473 : (Jvm.Cond.laysFinal "SlimeNet$PlateReader" "SlimeNet$PlateReader" "made" "LSlimeNet$Plate;") ∈ lw_all := lw_g (lw_at lw_m2 164 rfl) rfl
theorem q474 : (Jvm.Cond.soleField "SlimeNet$PlateReader" "made") ∈ lw_all := lw_g (lw_at lw_m2 165 rfl) rfl
theorem q475 : (Jvm.Cond.lays "SlimeNet$PlateReader" "SlimeNet$PlateReader" "told" "I") ∈ lw_all := lw_g (lw_at lw_m2 166 rfl) rfl
theorem q476 : (Jvm.Cond.soleField "SlimeNet$PlateReader" "told") ∈ lw_all := lw_g (lw_at lw_m2 167 rfl) rfl
theorem q477 : (Jvm.Cond.laysFinal "SlimeNet$PlateReader" "SlimeNet$PlateReader" "this$0" "LSlimeNet;") ∈ lw_all := lw_g (lw_at lw_m2 168 rfl) rfl
theorem q478 : (Jvm.Cond.soleField "SlimeNet$PlateReader" "this$0") ∈ lw_all := lw_g (lw_at lw_m2 169 rfl) rfl
theorem q479 : (Jvm.Cond.laysFinal "SlimeNet$PlateReader" "SlimeNet$Reader" "size" "I") ∈ lw_all := lw_g (lw_at lw_m2 170 rfl) rfl
theorem q481 : (Jvm.Cond.lays "SlimeNet$PlateReader" "SlimeNet$Reader" "sort" "I") ∈ lw_all := lw_g (lw_at lw_m2 172 rfl) rfl
theorem q483 : (Jvm.Cond.lays "SlimeNet$PlateReader" "SlimeNet$Reader" "at" "I") ∈ lw_all := lw_g (lw_at lw_m2 174 rfl) rfl
theorem q485 : (Jvm.Cond.lays "SlimeNet$PlateReader" "SlimeNet$Reader" "to" "I") ∈ lw_all := lw_g (lw_at lw_m2 176 rfl) rfl
theorem q487 : (Jvm.Cond.lays "SlimeNet$PlateReader" "SlimeNet$Reader" "value" "I") ∈ lw_all := lw_g (lw_at lw_m2 178 rfl) rfl
theorem q489 : (Jvm.Cond.laysFinal "SlimeNet$PlateReader" "SlimeNet$Reader" "this$0" "LSlimeNet;") ∈ lw_all := lw_g (lw_at lw_m2 180 rfl) rfl
theorem q491 : (Jvm.Cond.superclass "SlimeNet$PlateReader" "SlimeNet$Reader") ∈ lw_all := lw_g (lw_at lw_m2 182 rfl) rfl
theorem q493 : (Jvm.Cond.instanceMethod ({ cls := "SlimeNet$PlateReader", name := "read", desc := "()LSlimeNet$Plate;" } : Jvm.MethodName)) ∈ lw_all := lw_g (lw_at lw_m2 184 rfl) rfl
theorem q494 : (Jvm.Cond.selects "SlimeNet$PlateReader" ({ cls := "SlimeNet$PlateReader", name := "read", desc := "()LSlimeNet$Plate;" } : Jvm.MethodName) ({ cls := "SlimeNet$PlateReader", name := "read", desc := "()LSlimeNet$Plate;" } : Jvm.MethodName)) ∈ lw_all := lw_g (lw_at lw_m2 185 rfl) rfl
theorem q495 : (Jvm.Cond.code ({ cls := "SlimeNet$PlateReader", name := "read", desc := "()LSlimeNet$Plate;" } : Jvm.MethodName) prog_4_method_2_code (1 : Nat) (Option.some (Jvm.ClassFile.FieldType.object "SlimeNet$Plate"))) ∈ lw_all := lw_g (lw_at lw_m2 186 rfl) rfl
theorem q496 : (Jvm.Cond.methodLink "SlimeNet$PlateReader" (24 : Nat) ({ cls := "SlimeNet$PlateReader", name := "isEnd", desc := "()Z" } : Jvm.MethodName)) ∈ lw_all := lw_g (lw_at lw_m2 187 rfl) rfl
theorem q497 : (Jvm.Cond.sameMethod "SlimeNet$PlateReader" "SlimeNet$Reader" "isEnd" "()Z") ∈ lw_all := lw_g (lw_at lw_m2 188 rfl) rfl
theorem q499 : (Jvm.Cond.selects "SlimeNet$PlateReader" ({ cls := "SlimeNet$PlateReader", name := "isEnd", desc := "()Z" } : Jvm.MethodName) ({ cls := "SlimeNet$Reader", name := "isEnd", desc := "()Z" } : Jvm.MethodName)) ∈ lw_all := lw_g (lw_at lw_m2 190 rfl) rfl
theorem q502 : (Jvm.Cond.methodLink "SlimeNet$PlateReader" (28 : Nat) ({ cls := "SlimeNet$PlateReader", name := "clause", desc := "()V" } : Jvm.MethodName)) ∈ lw_all := lw_g (lw_at lw_m2 193 rfl) rfl
theorem q503 : (Jvm.Cond.privateMethod ({ cls := "SlimeNet$PlateReader", name := "clause", desc := "()V" } : Jvm.MethodName)) ∈ lw_tbl := lw_at lw_m2 194 rfl
theorem q504 : (Jvm.Cond.instanceMethod ({ cls := "SlimeNet$PlateReader", name := "clause", desc := "()V" } : Jvm.MethodName)) ∈ lw_all := lw_g (lw_at lw_m2 195 rfl) rfl
theorem q505 : (Jvm.Cond.code ({ cls := "SlimeNet$PlateReader", name := "clause", desc := "()V" } : Jvm.MethodName) prog_4_method_4_code (2 : Nat) (Option.none : Option Jvm.ClassFile.FieldType)) ∈ lw_all := lw_g (lw_at lw_m2 196 rfl) rfl
theorem q506 : (Jvm.Cond.stringRef "SlimeNet$PlateReader" (52 : Nat) "spot") ∈ lw_tbl := lw_at lw_m2 197 rfl
theorem q507 : (Jvm.Cond.methodLink "SlimeNet$PlateReader" (38 : Nat) ({ cls := "SlimeNet$PlateReader", name := "is", desc := "(Ljava/lang/String;)Z" } : Jvm.MethodName)) ∈ lw_all := lw_g (lw_at lw_m2 198 rfl) rfl
theorem q508 : (Jvm.Cond.sameMethod "SlimeNet$PlateReader" "SlimeNet$Reader" "is" "(Ljava/lang/String;)Z") ∈ lw_all := lw_g (lw_at lw_m2 199 rfl) rfl
theorem q510 : (Jvm.Cond.selects "SlimeNet$PlateReader" ({ cls := "SlimeNet$PlateReader", name := "is", desc := "(Ljava/lang/String;)Z" } : Jvm.MethodName) ({ cls := "SlimeNet$Reader", name := "is", desc := "(Ljava/lang/String;)Z" } : Jvm.MethodName)) ∈ lw_all := lw_g (lw_at lw_m2 201 rfl) rfl
theorem q561 : (Jvm.Cond.methodLink "SlimeNet$PlateReader" (54 : Nat) ({ cls := "SlimeNet$PlateReader", name := "spot", desc := "()V" } : Jvm.MethodName)) ∈ lw_all := lw_g (lw_at lw_m3 12 rfl) rfl
theorem q562 : (Jvm.Cond.privateMethod ({ cls := "SlimeNet$PlateReader", name := "spot", desc := "()V" } : Jvm.MethodName)) ∈ lw_tbl := lw_at lw_m3 13 rfl
theorem q563 : (Jvm.Cond.instanceMethod ({ cls := "SlimeNet$PlateReader", name := "spot", desc := "()V" } : Jvm.MethodName)) ∈ lw_all := lw_g (lw_at lw_m3 14 rfl) rfl
theorem q564 : (Jvm.Cond.code ({ cls := "SlimeNet$PlateReader", name := "spot", desc := "()V" } : Jvm.MethodName) prog_4_method_5_code (1 : Nat) (Option.none : Option Jvm.ClassFile.FieldType)) ∈ lw_all := lw_g (lw_at lw_m3 15 rfl) rfl
theorem q565 : (Jvm.Cond.methodLink "SlimeNet$PlateReader" (45 : Nat) ({ cls := "SlimeNet$PlateReader", name := "ask", desc := "(ZI)V" } : Jvm.MethodName)) ∈ lw_all := lw_g (lw_at lw_m3 16 rfl) rfl
theorem q566 : (Jvm.Cond.sameMethod "SlimeNet$PlateReader" "SlimeNet$Reader" "ask" "(ZI)V") ∈ lw_all := lw_g (lw_at lw_m3 17 rfl) rfl
theorem q568 : (Jvm.Cond.selects "SlimeNet$PlateReader" ({ cls := "SlimeNet$PlateReader", name := "ask", desc := "(ZI)V" } : Jvm.MethodName) ({ cls := "SlimeNet$Reader", name := "ask", desc := "(ZI)V" } : Jvm.MethodName)) ∈ lw_all := lw_g (lw_at lw_m3 19 rfl) rfl
theorem q575 : (Jvm.Cond.methodLink "SlimeNet$PlateReader" (49 : Nat) ({ cls := "SlimeNet$PlateReader", name := "goOn", desc := "()V" } : Jvm.MethodName)) ∈ lw_all := lw_g (lw_at lw_m3 26 rfl) rfl
theorem q576 : (Jvm.Cond.sameMethod "SlimeNet$PlateReader" "SlimeNet$Reader" "goOn" "()V") ∈ lw_all := lw_g (lw_at lw_m3 27 rfl) rfl
theorem q578 : (Jvm.Cond.selects "SlimeNet$PlateReader" ({ cls := "SlimeNet$PlateReader", name := "goOn", desc := "()V" } : Jvm.MethodName) ({ cls := "SlimeNet$Reader", name := "goOn", desc := "()V" } : Jvm.MethodName)) ∈ lw_all := lw_g (lw_at lw_m3 29 rfl) rfl
theorem q579 : (Jvm.Cond.methodLink "SlimeNet$PlateReader" (108 : Nat) ({ cls := "SlimeNet$PlateReader", name := "isWord", desc := "()Z" } : Jvm.MethodName)) ∈ lw_all := lw_g (lw_at lw_m3 30 rfl) rfl
theorem q580 : (Jvm.Cond.sameMethod "SlimeNet$PlateReader" "SlimeNet$Reader" "isWord" "()Z") ∈ lw_all := lw_g (lw_at lw_m3 31 rfl) rfl
theorem q582 : (Jvm.Cond.selects "SlimeNet$PlateReader" ({ cls := "SlimeNet$PlateReader", name := "isWord", desc := "()Z" } : Jvm.MethodName) ({ cls := "SlimeNet$Reader", name := "isWord", desc := "()Z" } : Jvm.MethodName)) ∈ lw_all := lw_g (lw_at lw_m3 33 rfl) rfl
theorem q585 : (Jvm.Cond.methodLink "SlimeNet$PlateReader" (111 : Nat) ({ cls := "SlimeNet$PlateReader", name := "name", desc := "()J" } : Jvm.MethodName)) ∈ lw_all := lw_g (lw_at lw_m3 36 rfl) rfl
theorem q586 : (Jvm.Cond.sameMethod "SlimeNet$PlateReader" "SlimeNet$Reader" "name" "()J") ∈ lw_all := lw_g (lw_at lw_m3 37 rfl) rfl
theorem q588 : (Jvm.Cond.selects "SlimeNet$PlateReader" ({ cls := "SlimeNet$PlateReader", name := "name", desc := "()J" } : Jvm.MethodName) ({ cls := "SlimeNet$Reader", name := "name", desc := "()J" } : Jvm.MethodName)) ∈ lw_all := lw_g (lw_at lw_m3 39 rfl) rfl
theorem q593 : (Jvm.Cond.methodLink "SlimeNet$PlateReader" (115 : Nat) ({ cls := "SlimeNet$Plate", name := "find", desc := "(J)I" } : Jvm.MethodName)) ∈ lw_all := lw_g (lw_at lw_m3 44 rfl) rfl
theorem q597 : (Jvm.Cond.stringRef "SlimeNet$PlateReader" (56 : Nat) "pipe") ∈ lw_tbl := lw_at lw_m3 48 rfl
theorem q598 : (Jvm.Cond.methodLink "SlimeNet$PlateReader" (58 : Nat) ({ cls := "SlimeNet$PlateReader", name := "pipe", desc := "()V" } : Jvm.MethodName)) ∈ lw_all := lw_g (lw_at lw_m3 49 rfl) rfl
theorem q599 : (Jvm.Cond.privateMethod ({ cls := "SlimeNet$PlateReader", name := "pipe", desc := "()V" } : Jvm.MethodName)) ∈ lw_tbl := lw_at lw_m3 50 rfl
theorem q600 : (Jvm.Cond.instanceMethod ({ cls := "SlimeNet$PlateReader", name := "pipe", desc := "()V" } : Jvm.MethodName)) ∈ lw_all := lw_g (lw_at lw_m3 51 rfl) rfl
theorem q601 : (Jvm.Cond.code ({ cls := "SlimeNet$PlateReader", name := "pipe", desc := "()V" } : Jvm.MethodName) prog_4_method_7_code (4 : Nat) (Option.none : Option Jvm.ClassFile.FieldType)) ∈ lw_all := lw_g (lw_at lw_m3 52 rfl) rfl
theorem q602 : (Jvm.Cond.methodLink "SlimeNet$PlateReader" (127 : Nat) ({ cls := "java/util/ArrayList", name := "size", desc := "()I" } : Jvm.MethodName)) ∈ lw_all := lw_g (lw_at lw_m3 53 rfl) rfl
theorem q603 : (Jvm.Cond.methodLink "SlimeNet$PlateReader" (62 : Nat) ({ cls := "SlimeNet$PlateReader", name := "spotHere", desc := "()I" } : Jvm.MethodName)) ∈ lw_all := lw_g (lw_at lw_m3 54 rfl) rfl
theorem q604 : (Jvm.Cond.privateMethod ({ cls := "SlimeNet$PlateReader", name := "spotHere", desc := "()I" } : Jvm.MethodName)) ∈ lw_tbl := lw_at lw_m3 55 rfl
theorem q605 : (Jvm.Cond.instanceMethod ({ cls := "SlimeNet$PlateReader", name := "spotHere", desc := "()I" } : Jvm.MethodName)) ∈ lw_all := lw_g (lw_at lw_m3 56 rfl) rfl
theorem q606 : (Jvm.Cond.code ({ cls := "SlimeNet$PlateReader", name := "spotHere", desc := "()I" } : Jvm.MethodName) prog_4_method_6_code (2 : Nat) (Option.some Jvm.ClassFile.FieldType.int)) ∈ lw_all := lw_g (lw_at lw_m3 57 rfl) rfl
theorem q607 : (Jvm.Cond.methodLink "SlimeNet$PlateReader" (132 : Nat) ({ cls := "SlimeNet$Plate", name := "between", desc := "(II)LSlimeNet$Pipe;" } : Jvm.MethodName)) ∈ lw_all := lw_g (lw_at lw_m3 58 rfl) rfl
theorem q625 : (Jvm.Cond.methodLink "SlimeNet$PlateReader" (136 : Nat) ({ cls := "SlimeNet$PlateReader", name := "within", desc := "(II)I" } : Jvm.MethodName)) ∈ lw_all := lw_g (lw_at lw_m3 76 rfl) rfl
theorem q626 : (Jvm.Cond.sameMethod "SlimeNet$PlateReader" "SlimeNet$Reader" "within" "(II)I") ∈ lw_all := lw_g (lw_at lw_m3 77 rfl) rfl
theorem q628 : (Jvm.Cond.selects "SlimeNet$PlateReader" ({ cls := "SlimeNet$PlateReader", name := "within", desc := "(II)I" } : Jvm.MethodName) ({ cls := "SlimeNet$Reader", name := "within", desc := "(II)I" } : Jvm.MethodName)) ∈ lw_all := lw_g (lw_at lw_m3 79 rfl) rfl
theorem q635 : (Jvm.Cond.classLink "SlimeNet$PlateReader" (139 : Nat) "SlimeNet$Pipe") ∈ lw_all := lw_g (lw_at lw_m3 86 rfl) rfl
theorem q637 : (Jvm.Cond.methodLink "SlimeNet$PlateReader" (141 : Nat) ({ cls := "SlimeNet$Pipe", name := "<init>", desc := "(IIII)V" } : Jvm.MethodName)) ∈ lw_all := lw_g (lw_at lw_m3 88 rfl) rfl
theorem q656 : (Jvm.Cond.fieldLinkNest "SlimeNet$PlateReader" (148 : Nat) "SlimeNet$Pipe" "isSalted" "Z" "SlimeNet") ∈ lw_tbl := lw_at lw_m3 107 rfl
theorem q669 : (Jvm.Cond.methodLink "SlimeNet$PlateReader" (144 : Nat) ({ cls := "java/util/ArrayList", name := "add", desc := "(Ljava/lang/Object;)Z" } : Jvm.MethodName)) ∈ lw_all := lw_g (lw_at lw_m3 120 rfl) rfl
theorem q704 : (Jvm.Cond.selects "SlimeNet$PlateReader" ({ cls := "java/lang/Object", name := "getClass", desc := "()Ljava/lang/Class;" } : Jvm.MethodName) ({ cls := "java/lang/Object", name := "getClass", desc := "()Ljava/lang/Class;" } : Jvm.MethodName)) ∈ lw_all := lw_g (lw_at lw_m3 155 rfl) rfl
theorem q724 : (Jvm.Cond.stringRef "SlimeNet$PlateReader" (60 : Nat) "food") ∈ lw_tbl := lw_at lw_m3 175 rfl
theorem q725 : (Jvm.Cond.methodLink "SlimeNet$PlateReader" (66 : Nat) ({ cls := "SlimeNet$Plate", name := "isFlake", desc := "(I)Z" } : Jvm.MethodName)) ∈ lw_all := lw_g (lw_at lw_m3 176 rfl) rfl
theorem q729 : (Jvm.Cond.stringRef "SlimeNet$PlateReader" (77 : Nat) "salt") ∈ lw_tbl := lw_at lw_m3 180 rfl
theorem q730 : (Jvm.Cond.methodLink "SlimeNet$PlateReader" (79 : Nat) ({ cls := "SlimeNet$PlateReader", name := "salt", desc := "()V" } : Jvm.MethodName)) ∈ lw_all := lw_g (lw_at lw_m3 181 rfl) rfl
theorem q731 : (Jvm.Cond.privateMethod ({ cls := "SlimeNet$PlateReader", name := "salt", desc := "()V" } : Jvm.MethodName)) ∈ lw_tbl := lw_at lw_m3 182 rfl
theorem q732 : (Jvm.Cond.instanceMethod ({ cls := "SlimeNet$PlateReader", name := "salt", desc := "()V" } : Jvm.MethodName)) ∈ lw_all := lw_g (lw_at lw_m3 183 rfl) rfl
theorem q733 : (Jvm.Cond.code ({ cls := "SlimeNet$PlateReader", name := "salt", desc := "()V" } : Jvm.MethodName) prog_4_method_8_code (4 : Nat) (Option.none : Option Jvm.ClassFile.FieldType)) ∈ lw_all := lw_g (lw_at lw_m3 184 rfl) rfl
theorem q734 : (Jvm.Cond.stringRef "SlimeNet$PlateReader" (81 : Nat) "law") ∈ lw_tbl := lw_at lw_m3 185 rfl
theorem q735 : (Jvm.Cond.methodLink "SlimeNet$PlateReader" (83 : Nat) ({ cls := "SlimeNet$PlateReader", name := "begins", desc := "(Ljava/lang/String;I)Z" } : Jvm.MethodName)) ∈ lw_all := lw_g (lw_at lw_m3 186 rfl) rfl
theorem q736 : (Jvm.Cond.privateMethod ({ cls := "SlimeNet$PlateReader", name := "begins", desc := "(Ljava/lang/String;I)Z" } : Jvm.MethodName)) ∈ lw_tbl := lw_at lw_m3 187 rfl
theorem q737 : (Jvm.Cond.instanceMethod ({ cls := "SlimeNet$PlateReader", name := "begins", desc := "(Ljava/lang/String;I)Z" } : Jvm.MethodName)) ∈ lw_all := lw_g (lw_at lw_m3 188 rfl) rfl
theorem q738 : (Jvm.Cond.code ({ cls := "SlimeNet$PlateReader", name := "begins", desc := "(Ljava/lang/String;I)Z" } : Jvm.MethodName) prog_4_method_3_code (3 : Nat) (Option.some Jvm.ClassFile.FieldType.boolean)) ∈ lw_all := lw_g (lw_at lw_m3 189 rfl) rfl
theorem q739 : (Jvm.Cond.methodLink "SlimeNet$PlateReader" (87 : Nat) ({ cls := "SlimeNet$PlateReader", name := "number", desc := "(II)I" } : Jvm.MethodName)) ∈ lw_all := lw_g (lw_at lw_m3 190 rfl) rfl
theorem q740 : (Jvm.Cond.sameMethod "SlimeNet$PlateReader" "SlimeNet$Reader" "number" "(II)I") ∈ lw_all := lw_g (lw_at lw_m3 191 rfl) rfl
theorem q742 : (Jvm.Cond.selects "SlimeNet$PlateReader" ({ cls := "SlimeNet$PlateReader", name := "number", desc := "(II)I" } : Jvm.MethodName) ({ cls := "SlimeNet$Reader", name := "number", desc := "(II)I" } : Jvm.MethodName)) ∈ lw_all := lw_g (lw_at lw_m3 193 rfl) rfl
theorem q746 : (Jvm.Cond.stringRef "SlimeNet$PlateReader" (97 : Nat) "width") ∈ lw_tbl := lw_at lw_m3 197 rfl
theorem q747 : (Jvm.Cond.stringRef "SlimeNet$PlateReader" (101 : Nat) "learn") ∈ lw_tbl := lw_at lw_m3 198 rfl
theorem q748 : (Jvm.Cond.methodLink "SlimeNet$PlateReader" (31 : Nat) ({ cls := "SlimeNet$PlateReader", name := "semicolon", desc := "()V" } : Jvm.MethodName)) ∈ lw_all := lw_g (lw_at lw_m3 199 rfl) rfl
theorem q749 : (Jvm.Cond.sameMethod "SlimeNet$PlateReader" "SlimeNet$Reader" "semicolon" "()V") ∈ lw_all := lw_g (lw_at lw_m3 200 rfl) rfl
theorem q751 : (Jvm.Cond.selects "SlimeNet$PlateReader" ({ cls := "SlimeNet$PlateReader", name := "semicolon", desc := "()V" } : Jvm.MethodName) ({ cls := "SlimeNet$Reader", name := "semicolon", desc := "()V" } : Jvm.MethodName)) ∈ lw_all := lw_g (lw_at lw_m3 202 rfl) rfl
theorem q1587 : (Jvm.Cond.selects "SlimeNet$PlateReader" ({ cls := "SlimeNet$Reader", name := "ask", desc := "(ZI)V" } : Jvm.MethodName) ({ cls := "SlimeNet$Reader", name := "ask", desc := "(ZI)V" } : Jvm.MethodName)) ∈ lw_all := lw_g (lw_at lw_m7 78 rfl) rfl
theorem q1589 : (Jvm.Cond.selects "SlimeNet$PlateReader" ({ cls := "SlimeNet$Reader", name := "within", desc := "(II)I" } : Jvm.MethodName) ({ cls := "SlimeNet$Reader", name := "within", desc := "(II)I" } : Jvm.MethodName)) ∈ lw_all := lw_g (lw_at lw_m7 80 rfl) rfl
theorem q1597 : (Jvm.Cond.castable "SlimeNet$PlateReader" "java/lang/Object") ∈ lw_tbl := lw_at lw_m7 88 rfl
theorem in_X6 : ∀ w ∈ wsX60, w ∈ lw_all := lw_in wsX60 [479, 481, 483, 485, 487, 489, 473, 475, 477] (by decide +kernel) (by decide +kernel)
/-! SlimeNet$Pipe -/
set_option maxRecDepth 100000
def RX7 : String := "SlimeNet$Pipe"
def TX7 : u_T := fun k => match k with
  | 0 => ("SlimeNet$Pipe", "number", "I", true)
  | 1 => ("SlimeNet$Pipe", "one", "I", true)
  | 2 => ("SlimeNet$Pipe", "two", "I", true)
  | 3 => ("SlimeNet$Pipe", "length", "I", true)
  | _ => ("SlimeNet$Pipe", "isSalted", "Z", false)
def tyX7 : Nat → FieldType := fun k => match k with
  | 0 => .int
  | 1 => .int
  | 2 => .int
  | 3 => .int
  | _ => .boolean
abbrev wsX70 : List Cond := u_ws RX7 TX7 5
theorem nmX7 : ∀ a, a < 5 → ∀ b, b < 5 → a ≠ b → (TX7 a).2.1 ≠ (TX7 b).2.1 := by decide +kernel
theorem tyX7_ok : ∀ k, k < 5 → parseFieldDescriptor (TX7 k).2.2.1 = some (tyX7 k) := by decide +kernel
abbrev cX7_init : ByteArray := prog_2_method_1_code
def yX7_init : MethodName := ⟨RX7, "<init>", "(IIII)V"⟩
def dkwX7_init_1 : List UInt8 := [181, 0, 19, 177]
abbrev dktX7_init_1 : List UInt8 := dkwX7_init_1 ++ []
def dkwX7_init_0 : List UInt8 := [42, 183, 0, 1, 42, 27, 181, 0, 7, 42, 28, 181, 0, 13, 42, 29, 181, 0, 16, 42, 21, 4]
abbrev dktX7_init_0 : List UInt8 := dkwX7_init_0 ++ dktX7_init_1
theorem dksX7_init_0 : cX7_init.data.toList.drop 0 = dktX7_init_0 := by decide +kernel
theorem dksX7_init_1 : cX7_init.data.toList.drop 22 = dktX7_init_1 := dk_seg dksX7_init_0 22 rfl rfl
theorem dX7_init_0 : decode cX7_init 0 = .ok (.aload_n 0, 1) := dk_42 (dk_at dksX7_init_0 0 rfl rfl)
theorem dX7_init_1 : decode cX7_init 1 = .ok (.invokespecial 1, 3) := dk_183 0 1 (dk_at dksX7_init_0 1 rfl rfl)
theorem dX7_init_4 : decode cX7_init 4 = .ok (.aload_n 0, 1) := dk_42 (dk_at dksX7_init_0 4 rfl rfl)
theorem dX7_init_5 : decode cX7_init 5 = .ok (.iload_n 1, 1) := dk_27 (dk_at dksX7_init_0 5 rfl rfl)
theorem dX7_init_6 : decode cX7_init 6 = .ok (.putfield 7, 3) := dk_181 0 7 (dk_at dksX7_init_0 6 rfl rfl)
theorem dX7_init_9 : decode cX7_init 9 = .ok (.aload_n 0, 1) := dk_42 (dk_at dksX7_init_0 9 rfl rfl)
theorem dX7_init_10 : decode cX7_init 10 = .ok (.iload_n 2, 1) := dk_28 (dk_at dksX7_init_0 10 rfl rfl)
theorem dX7_init_11 : decode cX7_init 11 = .ok (.putfield 13, 3) := dk_181 0 13 (dk_at dksX7_init_0 11 rfl rfl)
theorem dX7_init_14 : decode cX7_init 14 = .ok (.aload_n 0, 1) := dk_42 (dk_at dksX7_init_0 14 rfl rfl)
theorem dX7_init_15 : decode cX7_init 15 = .ok (.iload_n 3, 1) := dk_29 (dk_at dksX7_init_0 15 rfl rfl)
theorem dX7_init_16 : decode cX7_init 16 = .ok (.putfield 16, 3) := dk_181 0 16 (dk_at dksX7_init_0 16 rfl rfl)
theorem dX7_init_19 : decode cX7_init 19 = .ok (.aload_n 0, 1) := dk_42 (dk_at dksX7_init_0 19 rfl rfl)
theorem dX7_init_20 : decode cX7_init 20 = .ok (.iload 4, 2) := dk_21 4 (dk_at dksX7_init_0 20 rfl rfl)
theorem dX7_init_22 : decode cX7_init 22 = .ok (.putfield 19, 3) := dk_181 0 19 (dk_at dksX7_init_1 0 rfl rfl)
theorem dX7_init_25 : decode cX7_init 25 = .ok (.return_, 1) := dk_177 (dk_at dksX7_init_1 3 rfl rfl)
theorem q88 : (Jvm.Cond.initialized "SlimeNet$Pipe") ∈ lw_all := lw_g (lw_at lw_m1 19 rfl) rfl
theorem q636 : (Jvm.Cond.instantiable "SlimeNet$Pipe" (5 : Nat)) ∈ lw_all := lw_g (lw_at lw_m3 87 rfl) rfl
theorem q638 : (Jvm.Cond.instanceMethod ({ cls := "SlimeNet$Pipe", name := "<init>", desc := "(IIII)V" } : Jvm.MethodName)) ∈ lw_all := lw_g (lw_at lw_m3 89 rfl) rfl
theorem q639 : (Jvm.Cond.code ({ cls := "SlimeNet$Pipe", name := "<init>", desc := "(IIII)V" } : Jvm.MethodName) prog_2_method_1_code (5 : Nat) (Option.none : Option Jvm.ClassFile.FieldType)) ∈ lw_all := lw_g (lw_at lw_m3 90 rfl) rfl
theorem q640 : (Jvm.Cond.methodLink "SlimeNet$Pipe" (1 : Nat) ({ cls := "java/lang/Object", name := "<init>", desc := "()V" } : Jvm.MethodName)) ∈ lw_all := lw_g (lw_at lw_m3 91 rfl) rfl
theorem q641 : (Jvm.Cond.fieldLink "SlimeNet$Pipe" (7 : Nat) "SlimeNet$Pipe" "number" "I") ∈ lw_all := lw_g (lw_at lw_m3 92 rfl) rfl
theorem q643 : (Jvm.Cond.fieldLink "SlimeNet$Pipe" (13 : Nat) "SlimeNet$Pipe" "one" "I") ∈ lw_all := lw_g (lw_at lw_m3 94 rfl) rfl
theorem q647 : (Jvm.Cond.fieldLink "SlimeNet$Pipe" (16 : Nat) "SlimeNet$Pipe" "two" "I") ∈ lw_all := lw_g (lw_at lw_m3 98 rfl) rfl
theorem q651 : (Jvm.Cond.fieldLink "SlimeNet$Pipe" (19 : Nat) "SlimeNet$Pipe" "length" "I") ∈ lw_all := lw_g (lw_at lw_m3 102 rfl) rfl
theorem q658 : (Jvm.Cond.laysFinal "SlimeNet$Pipe" "SlimeNet$Pipe" "number" "I") ∈ lw_all := lw_g (lw_at lw_m3 109 rfl) rfl
theorem q659 : (Jvm.Cond.soleField "SlimeNet$Pipe" "number") ∈ lw_all := lw_g (lw_at lw_m3 110 rfl) rfl
theorem q660 : (Jvm.Cond.laysFinal "SlimeNet$Pipe" "SlimeNet$Pipe" "one" "I") ∈ lw_all := lw_g (lw_at lw_m3 111 rfl) rfl
theorem q661 : (Jvm.Cond.soleField "SlimeNet$Pipe" "one") ∈ lw_all := lw_g (lw_at lw_m3 112 rfl) rfl
theorem q662 : (Jvm.Cond.laysFinal "SlimeNet$Pipe" "SlimeNet$Pipe" "two" "I") ∈ lw_all := lw_g (lw_at lw_m3 113 rfl) rfl
theorem q663 : (Jvm.Cond.soleField "SlimeNet$Pipe" "two") ∈ lw_all := lw_g (lw_at lw_m3 114 rfl) rfl
theorem q664 : (Jvm.Cond.laysFinal "SlimeNet$Pipe" "SlimeNet$Pipe" "length" "I") ∈ lw_all := lw_g (lw_at lw_m3 115 rfl) rfl
theorem q665 : (Jvm.Cond.soleField "SlimeNet$Pipe" "length") ∈ lw_all := lw_g (lw_at lw_m3 116 rfl) rfl
theorem q666 : (Jvm.Cond.lays "SlimeNet$Pipe" "SlimeNet$Pipe" "isSalted" "Z") ∈ lw_all := lw_g (lw_at lw_m3 117 rfl) rfl
theorem q667 : (Jvm.Cond.soleField "SlimeNet$Pipe" "isSalted") ∈ lw_all := lw_g (lw_at lw_m3 118 rfl) rfl
theorem q668 : (Jvm.Cond.superclass "SlimeNet$Pipe" "java/lang/Object") ∈ lw_all := lw_g (lw_at lw_m3 119 rfl) rfl
theorem q702 : (Jvm.Cond.selects "SlimeNet$Pipe" ({ cls := "java/lang/Object", name := "getClass", desc := "()Ljava/lang/Class;" } : Jvm.MethodName) ({ cls := "java/lang/Object", name := "getClass", desc := "()Ljava/lang/Class;" } : Jvm.MethodName)) ∈ lw_all := lw_g (lw_at lw_m3 153 rfl) rfl
theorem q1598 : (Jvm.Cond.castable "SlimeNet$Pipe" "java/lang/Object") ∈ lw_tbl := lw_at lw_m7 89 rfl
theorem in_X7 : ∀ w ∈ wsX70, w ∈ lw_all := lw_in wsX70 [658, 660, 662, 664, 666] (by decide +kernel) (by decide +kernel)
/-! java/lang/Throwable -/
set_option maxRecDepth 100000
def RJ0 : String := "java/lang/Throwable"
def TJ0 : u_T := fun k => match k with
  | 0 => ("java/lang/Throwable", "cause", "Ljava/lang/Throwable;", false)
  | 1 => ("java/lang/Throwable", "stackTrace", "[Ljava/lang/StackTraceElement;", false)
  | 2 => ("java/lang/Throwable", "suppressedExceptions", "Ljava/util/List;", false)
  | 3 => ("java/lang/Throwable", "detailMessage", "Ljava/lang/String;", false)
  | _ => ("java/lang/Throwable", "backtrace", "Ljava/lang/Object;", false)
def tyJ0 : Nat → FieldType := fun k => match k with
  | 0 => .object "java/lang/Throwable"
  | 1 => .array (.object "java/lang/StackTraceElement")
  | 2 => .object "java/util/List"
  | 3 => .object "java/lang/String"
  | _ => .object "java/lang/Object"
abbrev wsJ00 : List Cond := u_ws RJ0 TJ0 5
theorem nmJ0 : ∀ a, a < 5 → ∀ b, b < 5 → a ≠ b → (TJ0 a).2.1 ≠ (TJ0 b).2.1 := by decide +kernel
theorem tyJ0_ok : ∀ k, k < 5 → parseFieldDescriptor (TJ0 k).2.2.1 = some (tyJ0 k) := by decide +kernel
abbrev cJ0_init : ByteArray := prog_22_method_1_code
def yJ0_init : MethodName := ⟨RJ0, "<init>", "()V"⟩
def dkwJ0_init_1 : List UInt8 := [182, 0, 27, 87, 177]
abbrev dktJ0_init_1 : List UInt8 := dkwJ0_init_1 ++ []
def dkwJ0_init_0 : List UInt8 := [42, 183, 0, 1, 42, 42, 181, 0, 7, 42, 178, 0, 13, 181, 0, 17, 42, 178, 0, 20, 181, 0, 24, 42]
abbrev dktJ0_init_0 : List UInt8 := dkwJ0_init_0 ++ dktJ0_init_1
theorem dksJ0_init_0 : cJ0_init.data.toList.drop 0 = dktJ0_init_0 := by decide +kernel
theorem dksJ0_init_1 : cJ0_init.data.toList.drop 24 = dktJ0_init_1 := dk_seg dksJ0_init_0 24 rfl rfl
theorem dJ0_init_0 : decode cJ0_init 0 = .ok (.aload_n 0, 1) := dk_42 (dk_at dksJ0_init_0 0 rfl rfl)
theorem dJ0_init_1 : decode cJ0_init 1 = .ok (.invokespecial 1, 3) := dk_183 0 1 (dk_at dksJ0_init_0 1 rfl rfl)
theorem dJ0_init_4 : decode cJ0_init 4 = .ok (.aload_n 0, 1) := dk_42 (dk_at dksJ0_init_0 4 rfl rfl)
theorem dJ0_init_5 : decode cJ0_init 5 = .ok (.aload_n 0, 1) := dk_42 (dk_at dksJ0_init_0 5 rfl rfl)
theorem dJ0_init_6 : decode cJ0_init 6 = .ok (.putfield 7, 3) := dk_181 0 7 (dk_at dksJ0_init_0 6 rfl rfl)
theorem dJ0_init_9 : decode cJ0_init 9 = .ok (.aload_n 0, 1) := dk_42 (dk_at dksJ0_init_0 9 rfl rfl)
theorem dJ0_init_10 : decode cJ0_init 10 = .ok (.getstatic 13, 3) := dk_178 0 13 (dk_at dksJ0_init_0 10 rfl rfl)
theorem dJ0_init_13 : decode cJ0_init 13 = .ok (.putfield 17, 3) := dk_181 0 17 (dk_at dksJ0_init_0 13 rfl rfl)
theorem dJ0_init_16 : decode cJ0_init 16 = .ok (.aload_n 0, 1) := dk_42 (dk_at dksJ0_init_0 16 rfl rfl)
theorem dJ0_init_17 : decode cJ0_init 17 = .ok (.getstatic 20, 3) := dk_178 0 20 (dk_at dksJ0_init_0 17 rfl rfl)
theorem dJ0_init_20 : decode cJ0_init 20 = .ok (.putfield 24, 3) := dk_181 0 24 (dk_at dksJ0_init_0 20 rfl rfl)
theorem dJ0_init_23 : decode cJ0_init 23 = .ok (.aload_n 0, 1) := dk_42 (dk_at dksJ0_init_0 23 rfl rfl)
theorem dJ0_init_24 : decode cJ0_init 24 = .ok (.invokevirtual 27, 3) := dk_182 0 27 (dk_at dksJ0_init_1 0 rfl rfl)
theorem dJ0_init_27 : decode cJ0_init 27 = .ok (.pop, 1) := dk_87 (dk_at dksJ0_init_1 3 rfl rfl)
theorem dJ0_init_28 : decode cJ0_init 28 = .ok (.return_, 1) := dk_177 (dk_at dksJ0_init_1 4 rfl rfl)
abbrev cJ0_init_2 : ByteArray := prog_22_method_5_code
def yJ0_init_2 : MethodName := ⟨RJ0, "<init>", "(Ljava/lang/String;Ljava/lang/Throwable;ZZ)V"⟩
def dkwJ0_init_2_2 : List UInt8 := [44, 181, 0, 7, 29, 154, 0, 8, 42, 1, 181, 0, 24, 177]
abbrev dktJ0_init_2_2 : List UInt8 := dkwJ0_init_2_2 ++ []
def dkwJ0_init_2_1 : List UInt8 := [21, 4, 153, 0, 11, 42, 182, 0, 27, 87, 167, 0, 8, 42, 1, 181, 0, 17, 42, 43, 181, 0, 31, 42]
abbrev dktJ0_init_2_1 : List UInt8 := dkwJ0_init_2_1 ++ dktJ0_init_2_2
def dkwJ0_init_2_0 : List UInt8 := [42, 183, 0, 1, 42, 42, 181, 0, 7, 42, 178, 0, 13, 181, 0, 17, 42, 178, 0, 20, 181, 0, 24]
abbrev dktJ0_init_2_0 : List UInt8 := dkwJ0_init_2_0 ++ dktJ0_init_2_1
theorem dksJ0_init_2_0 : cJ0_init_2.data.toList.drop 0 = dktJ0_init_2_0 := by decide +kernel
theorem dksJ0_init_2_1 : cJ0_init_2.data.toList.drop 23 = dktJ0_init_2_1 := dk_seg dksJ0_init_2_0 23 rfl rfl
theorem dksJ0_init_2_2 : cJ0_init_2.data.toList.drop 47 = dktJ0_init_2_2 := dk_seg dksJ0_init_2_1 24 rfl rfl
theorem dJ0_init_2_0 : decode cJ0_init_2 0 = .ok (.aload_n 0, 1) := dk_42 (dk_at dksJ0_init_2_0 0 rfl rfl)
theorem dJ0_init_2_1 : decode cJ0_init_2 1 = .ok (.invokespecial 1, 3) := dk_183 0 1 (dk_at dksJ0_init_2_0 1 rfl rfl)
theorem dJ0_init_2_4 : decode cJ0_init_2 4 = .ok (.aload_n 0, 1) := dk_42 (dk_at dksJ0_init_2_0 4 rfl rfl)
theorem dJ0_init_2_5 : decode cJ0_init_2 5 = .ok (.aload_n 0, 1) := dk_42 (dk_at dksJ0_init_2_0 5 rfl rfl)
theorem dJ0_init_2_6 : decode cJ0_init_2 6 = .ok (.putfield 7, 3) := dk_181 0 7 (dk_at dksJ0_init_2_0 6 rfl rfl)
theorem dJ0_init_2_9 : decode cJ0_init_2 9 = .ok (.aload_n 0, 1) := dk_42 (dk_at dksJ0_init_2_0 9 rfl rfl)
theorem dJ0_init_2_10 : decode cJ0_init_2 10 = .ok (.getstatic 13, 3) := dk_178 0 13 (dk_at dksJ0_init_2_0 10 rfl rfl)
theorem dJ0_init_2_13 : decode cJ0_init_2 13 = .ok (.putfield 17, 3) := dk_181 0 17 (dk_at dksJ0_init_2_0 13 rfl rfl)
theorem dJ0_init_2_16 : decode cJ0_init_2 16 = .ok (.aload_n 0, 1) := dk_42 (dk_at dksJ0_init_2_0 16 rfl rfl)
theorem dJ0_init_2_17 : decode cJ0_init_2 17 = .ok (.getstatic 20, 3) := dk_178 0 20 (dk_at dksJ0_init_2_0 17 rfl rfl)
theorem dJ0_init_2_20 : decode cJ0_init_2 20 = .ok (.putfield 24, 3) := dk_181 0 24 (dk_at dksJ0_init_2_0 20 rfl rfl)
theorem dJ0_init_2_23 : decode cJ0_init_2 23 = .ok (.iload 4, 2) := dk_21 4 (dk_at dksJ0_init_2_1 0 rfl rfl)
theorem dJ0_init_2_25 : decode cJ0_init_2 25 = .ok (.ifCond .eq 11, 3) := dk_153 0 11 (dk_at dksJ0_init_2_1 2 rfl rfl)
theorem dJ0_init_2_28 : decode cJ0_init_2 28 = .ok (.aload_n 0, 1) := dk_42 (dk_at dksJ0_init_2_1 5 rfl rfl)
theorem dJ0_init_2_29 : decode cJ0_init_2 29 = .ok (.invokevirtual 27, 3) := dk_182 0 27 (dk_at dksJ0_init_2_1 6 rfl rfl)
theorem dJ0_init_2_32 : decode cJ0_init_2 32 = .ok (.pop, 1) := dk_87 (dk_at dksJ0_init_2_1 9 rfl rfl)
theorem dJ0_init_2_33 : decode cJ0_init_2 33 = .ok (.goto 8, 3) := dk_167 0 8 (dk_at dksJ0_init_2_1 10 rfl rfl)
theorem dJ0_init_2_36 : decode cJ0_init_2 36 = .ok (.aload_n 0, 1) := dk_42 (dk_at dksJ0_init_2_1 13 rfl rfl)
theorem dJ0_init_2_37 : decode cJ0_init_2 37 = .ok (.aconst_null, 1) := dk_1 (dk_at dksJ0_init_2_1 14 rfl rfl)
theorem dJ0_init_2_38 : decode cJ0_init_2 38 = .ok (.putfield 17, 3) := dk_181 0 17 (dk_at dksJ0_init_2_1 15 rfl rfl)
theorem dJ0_init_2_41 : decode cJ0_init_2 41 = .ok (.aload_n 0, 1) := dk_42 (dk_at dksJ0_init_2_1 18 rfl rfl)
theorem dJ0_init_2_42 : decode cJ0_init_2 42 = .ok (.aload_n 1, 1) := dk_43 (dk_at dksJ0_init_2_1 19 rfl rfl)
theorem dJ0_init_2_43 : decode cJ0_init_2 43 = .ok (.putfield 31, 3) := dk_181 0 31 (dk_at dksJ0_init_2_1 20 rfl rfl)
theorem dJ0_init_2_46 : decode cJ0_init_2 46 = .ok (.aload_n 0, 1) := dk_42 (dk_at dksJ0_init_2_1 23 rfl rfl)
theorem dJ0_init_2_47 : decode cJ0_init_2 47 = .ok (.aload_n 2, 1) := dk_44 (dk_at dksJ0_init_2_2 0 rfl rfl)
theorem dJ0_init_2_48 : decode cJ0_init_2 48 = .ok (.putfield 7, 3) := dk_181 0 7 (dk_at dksJ0_init_2_2 1 rfl rfl)
theorem dJ0_init_2_51 : decode cJ0_init_2 51 = .ok (.iload_n 3, 1) := dk_29 (dk_at dksJ0_init_2_2 4 rfl rfl)
theorem dJ0_init_2_52 : decode cJ0_init_2 52 = .ok (.ifCond .ne 8, 3) := dk_154 0 8 (dk_at dksJ0_init_2_2 5 rfl rfl)
theorem dJ0_init_2_55 : decode cJ0_init_2 55 = .ok (.aload_n 0, 1) := dk_42 (dk_at dksJ0_init_2_2 8 rfl rfl)
theorem dJ0_init_2_56 : decode cJ0_init_2 56 = .ok (.aconst_null, 1) := dk_1 (dk_at dksJ0_init_2_2 9 rfl rfl)
theorem dJ0_init_2_57 : decode cJ0_init_2 57 = .ok (.putfield 24, 3) := dk_181 0 24 (dk_at dksJ0_init_2_2 10 rfl rfl)
theorem dJ0_init_2_60 : decode cJ0_init_2 60 = .ok (.return_, 1) := dk_177 (dk_at dksJ0_init_2_2 13 rfl rfl)
theorem q71 : (Jvm.Cond.initialized "java/lang/Throwable") ∈ lw_all := lw_g (lw_at lw_m1 2 rfl) rfl
theorem q106 : (Jvm.Cond.declares ({ cls := "java/lang/Throwable", name := "<init>", desc := "()V" } : Jvm.MethodName)) ∈ lw_tbl := lw_at lw_m1 37 rfl
theorem q107 : (Jvm.Cond.declares ({ cls := "java/lang/Throwable", name := "<init>", desc := "(Ljava/lang/String;)V" } : Jvm.MethodName)) ∈ lw_tbl := lw_at lw_m1 38 rfl
theorem q111 : (Jvm.Cond.lays "java/lang/Throwable" "java/lang/Throwable" "cause" "Ljava/lang/Throwable;") ∈ lw_all := lw_g (lw_at lw_m1 42 rfl) rfl
theorem q113 : (Jvm.Cond.lays "java/lang/Throwable" "java/lang/Throwable" "stackTrace" "[Ljava/lang/StackTraceElement;") ∈ lw_all := lw_g (lw_at lw_m1 44 rfl) rfl
theorem q115 : (Jvm.Cond.lays "java/lang/Throwable" "java/lang/Throwable" "suppressedExceptions" "Ljava/util/List;") ∈ lw_all := lw_g (lw_at lw_m1 46 rfl) rfl
theorem q117 : (Jvm.Cond.lays "java/lang/Throwable" "java/lang/Throwable" "detailMessage" "Ljava/lang/String;") ∈ lw_all := lw_g (lw_at lw_m1 48 rfl) rfl
theorem q119 : (Jvm.Cond.lays "java/lang/Throwable" "java/lang/Throwable" "backtrace" "Ljava/lang/Object;") ∈ lw_all := lw_g (lw_at lw_m1 50 rfl) rfl
theorem q120 : (Jvm.Cond.fieldLink "java/lang/Throwable" (198 : Nat) "java/lang/Throwable" "backtrace" "Ljava/lang/Object;") ∈ lw_all := lw_g (lw_at lw_m1 51 rfl) rfl
theorem q121 : (Jvm.Cond.superclass "java/lang/Throwable" "java/lang/Object") ∈ lw_all := lw_g (lw_at lw_m1 52 rfl) rfl
theorem q122 : (Jvm.Cond.instanceMethod ({ cls := "java/lang/Throwable", name := "<init>", desc := "()V" } : Jvm.MethodName)) ∈ lw_all := lw_g (lw_at lw_m1 53 rfl) rfl
theorem q123 : (Jvm.Cond.code ({ cls := "java/lang/Throwable", name := "<init>", desc := "()V" } : Jvm.MethodName) prog_22_method_1_code (1 : Nat) (Option.none : Option Jvm.ClassFile.FieldType)) ∈ lw_all := lw_g (lw_at lw_m1 54 rfl) rfl
theorem q124 : (Jvm.Cond.methodLink "java/lang/Throwable" (1 : Nat) ({ cls := "java/lang/Object", name := "<init>", desc := "()V" } : Jvm.MethodName)) ∈ lw_all := lw_g (lw_at lw_m1 55 rfl) rfl
theorem q125 : (Jvm.Cond.fieldLink "java/lang/Throwable" (13 : Nat) "java/lang/Throwable" "UNASSIGNED_STACK" "[Ljava/lang/StackTraceElement;") ∈ lw_all := lw_g (lw_at lw_m1 56 rfl) rfl
theorem q126 : (Jvm.Cond.laysStatic "java/lang/Throwable" "UNASSIGNED_STACK" "[Ljava/lang/StackTraceElement;") ∈ lw_tbl := lw_at lw_m1 57 rfl
theorem q127 : (Jvm.Cond.fieldLink "java/lang/Throwable" (20 : Nat) "java/lang/Throwable" "SUPPRESSED_SENTINEL" "Ljava/util/List;") ∈ lw_all := lw_g (lw_at lw_m1 58 rfl) rfl
theorem q128 : (Jvm.Cond.laysStatic "java/lang/Throwable" "SUPPRESSED_SENTINEL" "Ljava/util/List;") ∈ lw_tbl := lw_at lw_m1 59 rfl
theorem q129 : (Jvm.Cond.methodLink "java/lang/Throwable" (27 : Nat) ({ cls := "java/lang/Throwable", name := "fillInStackTrace", desc := "()Ljava/lang/Throwable;" } : Jvm.MethodName)) ∈ lw_all := lw_g (lw_at lw_m1 60 rfl) rfl
theorem q130 : (Jvm.Cond.instanceMethod ({ cls := "java/lang/Throwable", name := "fillInStackTrace", desc := "()Ljava/lang/Throwable;" } : Jvm.MethodName)) ∈ lw_all := lw_g (lw_at lw_m1 61 rfl) rfl
theorem q131 : (Jvm.Cond.sameMethod "java/lang/Throwable" "java/lang/Throwable" "fillInStackTrace" "()Ljava/lang/Throwable;") ∈ lw_all := lw_g (lw_at lw_m1 62 rfl) rfl
theorem q132 : (Jvm.Cond.codeSync ({ cls := "java/lang/Throwable", name := "fillInStackTrace", desc := "()Ljava/lang/Throwable;" } : Jvm.MethodName) prog_22_method_18_code (1 : Nat) (Option.some (Jvm.ClassFile.FieldType.object "java/lang/Throwable"))) ∈ lw_all := lw_g (lw_at lw_m1 63 rfl) rfl
theorem q133 : (Jvm.Cond.methodLink "java/lang/Throwable" (202 : Nat) ({ cls := "java/lang/Throwable", name := "fillInStackTrace", desc := "(I)Ljava/lang/Throwable;" } : Jvm.MethodName)) ∈ lw_all := lw_g (lw_at lw_m1 64 rfl) rfl
theorem q134 : (Jvm.Cond.privateMethod ({ cls := "java/lang/Throwable", name := "fillInStackTrace", desc := "(I)Ljava/lang/Throwable;" } : Jvm.MethodName)) ∈ lw_tbl := lw_at lw_m1 65 rfl
theorem q135 : (Jvm.Cond.instanceMethod ({ cls := "java/lang/Throwable", name := "fillInStackTrace", desc := "(I)Ljava/lang/Throwable;" } : Jvm.MethodName)) ∈ lw_all := lw_g (lw_at lw_m1 66 rfl) rfl
theorem q136 : (Jvm.Cond.instantiable "java/lang/Throwable" (6 : Nat)) ∈ lw_all := lw_g (lw_at lw_m1 67 rfl) rfl
theorem q137 : (Jvm.Cond.native ({ cls := "java/lang/Throwable", name := "fillInStackTrace", desc := "(I)Ljava/lang/Throwable;" } : Jvm.MethodName)) ∈ lw_all := lw_g (lw_at lw_m1 68 rfl) rfl
theorem q145 : (Jvm.Cond.instanceMethod ({ cls := "java/lang/Throwable", name := "<init>", desc := "(Ljava/lang/String;Ljava/lang/Throwable;ZZ)V" } : Jvm.MethodName)) ∈ lw_all := lw_g (lw_at lw_m1 76 rfl) rfl
theorem q146 : (Jvm.Cond.code ({ cls := "java/lang/Throwable", name := "<init>", desc := "(Ljava/lang/String;Ljava/lang/Throwable;ZZ)V" } : Jvm.MethodName) prog_22_method_5_code (5 : Nat) (Option.none : Option Jvm.ClassFile.FieldType)) ∈ lw_all := lw_g (lw_at lw_m1 77 rfl) rfl
theorem q151 : (Jvm.Cond.fieldLink "java/lang/Throwable" (198 : Nat) "java/lang/Throwable" "backtrace" "Ljava/lang/Object;") ∈ lw_all := lw_g (lw_at lw_m1 82 rfl) rfl
theorem q152 : (Jvm.Cond.fieldLink "java/lang/Throwable" (31 : Nat) "java/lang/Throwable" "detailMessage" "Ljava/lang/String;") ∈ lw_all := lw_g (lw_at lw_m1 83 rfl) rfl
theorem q153 : (Jvm.Cond.fieldLink "java/lang/Throwable" (7 : Nat) "java/lang/Throwable" "cause" "Ljava/lang/Throwable;") ∈ lw_all := lw_g (lw_at lw_m1 84 rfl) rfl
theorem q154 : (Jvm.Cond.fieldLink "java/lang/Throwable" (17 : Nat) "java/lang/Throwable" "stackTrace" "[Ljava/lang/StackTraceElement;") ∈ lw_all := lw_g (lw_at lw_m1 85 rfl) rfl
theorem q155 : (Jvm.Cond.fieldLink "java/lang/Throwable" (24 : Nat) "java/lang/Throwable" "suppressedExceptions" "Ljava/util/List;") ∈ lw_all := lw_g (lw_at lw_m1 86 rfl) rfl
theorem q160 : (Jvm.Cond.soleField "java/lang/Throwable" "backtrace") ∈ lw_all := lw_g (lw_at lw_m1 91 rfl) rfl
theorem q161 : (Jvm.Cond.soleField "java/lang/Throwable" "detailMessage") ∈ lw_all := lw_g (lw_at lw_m1 92 rfl) rfl
theorem q162 : (Jvm.Cond.soleField "java/lang/Throwable" "cause") ∈ lw_all := lw_g (lw_at lw_m1 93 rfl) rfl
theorem q163 : (Jvm.Cond.soleField "java/lang/Throwable" "stackTrace") ∈ lw_all := lw_g (lw_at lw_m1 94 rfl) rfl
theorem q165 : (Jvm.Cond.soleField "java/lang/Throwable" "depth") ∈ lw_all := lw_g (lw_at lw_m1 96 rfl) rfl
theorem q166 : (Jvm.Cond.soleField "java/lang/Throwable" "suppressedExceptions") ∈ lw_all := lw_g (lw_at lw_m1 97 rfl) rfl
theorem q1582 : (Jvm.Cond.sameMethod "java/lang/Throwable" "java/lang/Throwable" "fillInStackTrace" "(I)Ljava/lang/Throwable;") ∈ lw_all := lw_g (lw_at lw_m7 73 rfl) rfl
theorem q1599 : (Jvm.Cond.castable "java/lang/Throwable" "java/lang/Object") ∈ lw_tbl := lw_at lw_m7 90 rfl
theorem in_J0 : ∀ w ∈ wsJ00, w ∈ lw_all := lw_in wsJ00 [111, 113, 115, 117, 119] (by decide +kernel) (by decide +kernel)
/-! java/lang/Exception -/
set_option maxRecDepth 100000
def RJ1 : String := "java/lang/Exception"
abbrev cJ1_init : ByteArray := prog_14_method_5_code
def yJ1_init : MethodName := ⟨RJ1, "<init>", "(Ljava/lang/String;Ljava/lang/Throwable;ZZ)V"⟩
def dkwJ1_init_0 : List UInt8 := [42, 43, 44, 29, 21, 4, 183, 0, 16, 177]
abbrev dktJ1_init_0 : List UInt8 := dkwJ1_init_0 ++ []
theorem dksJ1_init_0 : cJ1_init.data.toList.drop 0 = dktJ1_init_0 := by decide +kernel
theorem dJ1_init_0 : decode cJ1_init 0 = .ok (.aload_n 0, 1) := dk_42 (dk_at dksJ1_init_0 0 rfl rfl)
theorem dJ1_init_1 : decode cJ1_init 1 = .ok (.aload_n 1, 1) := dk_43 (dk_at dksJ1_init_0 1 rfl rfl)
theorem dJ1_init_2 : decode cJ1_init 2 = .ok (.aload_n 2, 1) := dk_44 (dk_at dksJ1_init_0 2 rfl rfl)
theorem dJ1_init_3 : decode cJ1_init 3 = .ok (.iload_n 3, 1) := dk_29 (dk_at dksJ1_init_0 3 rfl rfl)
theorem dJ1_init_4 : decode cJ1_init 4 = .ok (.iload 4, 2) := dk_21 4 (dk_at dksJ1_init_0 4 rfl rfl)
theorem dJ1_init_6 : decode cJ1_init 6 = .ok (.invokespecial 16, 3) := dk_183 0 16 (dk_at dksJ1_init_0 6 rfl rfl)
theorem dJ1_init_9 : decode cJ1_init 9 = .ok (.return_, 1) := dk_177 (dk_at dksJ1_init_0 9 rfl rfl)
theorem q72 : (Jvm.Cond.initialized "java/lang/Exception") ∈ lw_all := lw_g (lw_at lw_m1 3 rfl) rfl
theorem q104 : (Jvm.Cond.declares ({ cls := "java/lang/Exception", name := "<init>", desc := "()V" } : Jvm.MethodName)) ∈ lw_tbl := lw_at lw_m1 35 rfl
theorem q105 : (Jvm.Cond.declares ({ cls := "java/lang/Exception", name := "<init>", desc := "(Ljava/lang/String;)V" } : Jvm.MethodName)) ∈ lw_tbl := lw_at lw_m1 36 rfl
theorem q142 : (Jvm.Cond.instanceMethod ({ cls := "java/lang/Exception", name := "<init>", desc := "(Ljava/lang/String;Ljava/lang/Throwable;ZZ)V" } : Jvm.MethodName)) ∈ lw_all := lw_g (lw_at lw_m1 73 rfl) rfl
theorem q143 : (Jvm.Cond.code ({ cls := "java/lang/Exception", name := "<init>", desc := "(Ljava/lang/String;Ljava/lang/Throwable;ZZ)V" } : Jvm.MethodName) prog_14_method_5_code (5 : Nat) (Option.none : Option Jvm.ClassFile.FieldType)) ∈ lw_all := lw_g (lw_at lw_m1 74 rfl) rfl
theorem q144 : (Jvm.Cond.methodLink "java/lang/Exception" (16 : Nat) ({ cls := "java/lang/Throwable", name := "<init>", desc := "(Ljava/lang/String;Ljava/lang/Throwable;ZZ)V" } : Jvm.MethodName)) ∈ lw_all := lw_g (lw_at lw_m1 75 rfl) rfl
/-! java/util/Objects -/
set_option maxRecDepth 100000
def RJ10 : String := "java/util/Objects"
abbrev cJ10_checkIndex : ByteArray := prog_31_method_17_code
def yJ10_checkIndex : MethodName := ⟨RJ10, "checkIndex", "(II)I"⟩
def dkwJ10_checkIndex_0 : List UInt8 := [26, 27, 1, 184, 0, 105, 172]
abbrev dktJ10_checkIndex_0 : List UInt8 := dkwJ10_checkIndex_0 ++ []
theorem dksJ10_checkIndex_0 : cJ10_checkIndex.data.toList.drop 0 = dktJ10_checkIndex_0 := by decide +kernel
theorem dJ10_checkIndex_0 : decode cJ10_checkIndex 0 = .ok (.iload_n 0, 1) := dk_26 (dk_at dksJ10_checkIndex_0 0 rfl rfl)
theorem dJ10_checkIndex_1 : decode cJ10_checkIndex 1 = .ok (.iload_n 1, 1) := dk_27 (dk_at dksJ10_checkIndex_0 1 rfl rfl)
theorem dJ10_checkIndex_2 : decode cJ10_checkIndex 2 = .ok (.aconst_null, 1) := dk_1 (dk_at dksJ10_checkIndex_0 2 rfl rfl)
theorem dJ10_checkIndex_3 : decode cJ10_checkIndex 3 = .ok (.invokestatic 105, 3) := dk_184 0 105 (dk_at dksJ10_checkIndex_0 3 rfl rfl)
theorem dJ10_checkIndex_6 : decode cJ10_checkIndex 6 = .ok (.ireturn, 1) := dk_172 (dk_at dksJ10_checkIndex_0 6 rfl rfl)
theorem q87 : (Jvm.Cond.initialized "java/util/Objects") ∈ lw_all := lw_g (lw_at lw_m1 18 rfl) rfl
theorem q617 : (Jvm.Cond.static ({ cls := "java/util/Objects", name := "checkIndex", desc := "(II)I" } : Jvm.MethodName)) ∈ lw_all := lw_g (lw_at lw_m3 68 rfl) rfl
theorem q618 : (Jvm.Cond.code ({ cls := "java/util/Objects", name := "checkIndex", desc := "(II)I" } : Jvm.MethodName) prog_31_method_17_code (2 : Nat) (Option.some Jvm.ClassFile.FieldType.int)) ∈ lw_all := lw_g (lw_at lw_m3 69 rfl) rfl
theorem q619 : (Jvm.Cond.methodLink "java/util/Objects" (105 : Nat) ({ cls := "jdk/internal/util/Preconditions", name := "checkIndex", desc := "(IILjava/util/function/BiFunction;)I" } : Jvm.MethodName)) ∈ lw_all := lw_g (lw_at lw_m3 70 rfl) rfl
/-! jdk/internal/util/ArraysSupport -/
set_option maxRecDepth 100000
def RJ11 : String := "jdk/internal/util/ArraysSupport"
abbrev cJ11_newLength : ByteArray := prog_34_method_27_code
def yJ11_newLength : MethodName := ⟨RJ11, "newLength", "(III)I"⟩
def dkwJ11_newLength_1 : List UInt8 := [184, 0, 201, 172]
abbrev dktJ11_newLength_1 : List UInt8 := dkwJ11_newLength_1 ++ []
def dkwJ11_newLength_0 : List UInt8 := [26, 27, 28, 184, 0, 194, 96, 62, 3, 29, 162, 0, 11, 29, 18, 200, 163, 0, 5, 29, 172, 26, 27]
abbrev dktJ11_newLength_0 : List UInt8 := dkwJ11_newLength_0 ++ dktJ11_newLength_1
theorem dksJ11_newLength_0 : cJ11_newLength.data.toList.drop 0 = dktJ11_newLength_0 := by decide +kernel
theorem dksJ11_newLength_1 : cJ11_newLength.data.toList.drop 23 = dktJ11_newLength_1 := dk_seg dksJ11_newLength_0 23 rfl rfl
theorem dJ11_newLength_0 : decode cJ11_newLength 0 = .ok (.iload_n 0, 1) := dk_26 (dk_at dksJ11_newLength_0 0 rfl rfl)
theorem dJ11_newLength_1 : decode cJ11_newLength 1 = .ok (.iload_n 1, 1) := dk_27 (dk_at dksJ11_newLength_0 1 rfl rfl)
theorem dJ11_newLength_2 : decode cJ11_newLength 2 = .ok (.iload_n 2, 1) := dk_28 (dk_at dksJ11_newLength_0 2 rfl rfl)
theorem dJ11_newLength_3 : decode cJ11_newLength 3 = .ok (.invokestatic 194, 3) := dk_184 0 194 (dk_at dksJ11_newLength_0 3 rfl rfl)
theorem dJ11_newLength_6 : decode cJ11_newLength 6 = .ok (.iadd, 1) := dk_96 (dk_at dksJ11_newLength_0 6 rfl rfl)
theorem dJ11_newLength_7 : decode cJ11_newLength 7 = .ok (.istore_n 3, 1) := dk_62 (dk_at dksJ11_newLength_0 7 rfl rfl)
theorem dJ11_newLength_8 : decode cJ11_newLength 8 = .ok (.iconst 0, 1) := dk_3 (dk_at dksJ11_newLength_0 8 rfl rfl)
theorem dJ11_newLength_9 : decode cJ11_newLength 9 = .ok (.iload_n 3, 1) := dk_29 (dk_at dksJ11_newLength_0 9 rfl rfl)
theorem dJ11_newLength_10 : decode cJ11_newLength 10 = .ok (.if_icmp .ge 11, 3) := dk_162 0 11 (dk_at dksJ11_newLength_0 10 rfl rfl)
theorem dJ11_newLength_13 : decode cJ11_newLength 13 = .ok (.iload_n 3, 1) := dk_29 (dk_at dksJ11_newLength_0 13 rfl rfl)
theorem dJ11_newLength_14 : decode cJ11_newLength 14 = .ok (.ldc 200, 2) := dk_18 200 (dk_at dksJ11_newLength_0 14 rfl rfl)
theorem dJ11_newLength_16 : decode cJ11_newLength 16 = .ok (.if_icmp .gt 5, 3) := dk_163 0 5 (dk_at dksJ11_newLength_0 16 rfl rfl)
theorem dJ11_newLength_19 : decode cJ11_newLength 19 = .ok (.iload_n 3, 1) := dk_29 (dk_at dksJ11_newLength_0 19 rfl rfl)
theorem dJ11_newLength_20 : decode cJ11_newLength 20 = .ok (.ireturn, 1) := dk_172 (dk_at dksJ11_newLength_0 20 rfl rfl)
theorem dJ11_newLength_21 : decode cJ11_newLength 21 = .ok (.iload_n 0, 1) := dk_26 (dk_at dksJ11_newLength_0 21 rfl rfl)
theorem dJ11_newLength_22 : decode cJ11_newLength 22 = .ok (.iload_n 1, 1) := dk_27 (dk_at dksJ11_newLength_0 22 rfl rfl)
theorem dJ11_newLength_23 : decode cJ11_newLength 23 = .ok (.invokestatic 201, 3) := dk_184 0 201 (dk_at dksJ11_newLength_1 0 rfl rfl)
theorem dJ11_newLength_26 : decode cJ11_newLength 26 = .ok (.ireturn, 1) := dk_172 (dk_at dksJ11_newLength_1 3 rfl rfl)
abbrev cJ11_hugeLength : ByteArray := prog_34_method_28_code
def yJ11_hugeLength : MethodName := ⟨RJ11, "hugeLength", "(II)I"⟩
def dkwJ11_hugeLength_2 : List UInt8 := [191, 28, 18, 200, 163, 0, 6, 18, 200, 172, 28, 172]
abbrev dktJ11_hugeLength_2 : List UInt8 := dkwJ11_hugeLength_2 ++ []
def dkwJ11_hugeLength_1 : List UInt8 := [26, 182, 0, 98, 18, 208, 182, 0, 94, 27, 182, 0, 98, 18, 210, 182, 0, 94, 182, 0, 101, 183, 0, 212]
abbrev dktJ11_hugeLength_1 : List UInt8 := dkwJ11_hugeLength_1 ++ dktJ11_hugeLength_2
def dkwJ11_hugeLength_0 : List UInt8 := [26, 27, 96, 61, 28, 156, 0, 44, 187, 0, 204, 89, 187, 0, 89, 89, 183, 0, 91, 18, 206, 182, 0, 94]
abbrev dktJ11_hugeLength_0 : List UInt8 := dkwJ11_hugeLength_0 ++ dktJ11_hugeLength_1
theorem dksJ11_hugeLength_0 : cJ11_hugeLength.data.toList.drop 0 = dktJ11_hugeLength_0 := by decide +kernel
theorem dksJ11_hugeLength_1 : cJ11_hugeLength.data.toList.drop 24 = dktJ11_hugeLength_1 := dk_seg dksJ11_hugeLength_0 24 rfl rfl
theorem dksJ11_hugeLength_2 : cJ11_hugeLength.data.toList.drop 48 = dktJ11_hugeLength_2 := dk_seg dksJ11_hugeLength_1 24 rfl rfl
theorem dJ11_hugeLength_0 : decode cJ11_hugeLength 0 = .ok (.iload_n 0, 1) := dk_26 (dk_at dksJ11_hugeLength_0 0 rfl rfl)
theorem dJ11_hugeLength_1 : decode cJ11_hugeLength 1 = .ok (.iload_n 1, 1) := dk_27 (dk_at dksJ11_hugeLength_0 1 rfl rfl)
theorem dJ11_hugeLength_2 : decode cJ11_hugeLength 2 = .ok (.iadd, 1) := dk_96 (dk_at dksJ11_hugeLength_0 2 rfl rfl)
theorem dJ11_hugeLength_3 : decode cJ11_hugeLength 3 = .ok (.istore_n 2, 1) := dk_61 (dk_at dksJ11_hugeLength_0 3 rfl rfl)
theorem dJ11_hugeLength_4 : decode cJ11_hugeLength 4 = .ok (.iload_n 2, 1) := dk_28 (dk_at dksJ11_hugeLength_0 4 rfl rfl)
theorem dJ11_hugeLength_5 : decode cJ11_hugeLength 5 = .ok (.ifCond .ge 44, 3) := dk_156 0 44 (dk_at dksJ11_hugeLength_0 5 rfl rfl)
theorem dJ11_hugeLength_8 : decode cJ11_hugeLength 8 = .ok (.new 204, 3) := dk_187 0 204 (dk_at dksJ11_hugeLength_0 8 rfl rfl)
theorem dJ11_hugeLength_11 : decode cJ11_hugeLength 11 = .ok (.dup, 1) := dk_89 (dk_at dksJ11_hugeLength_0 11 rfl rfl)
theorem dJ11_hugeLength_12 : decode cJ11_hugeLength 12 = .ok (.new 89, 3) := dk_187 0 89 (dk_at dksJ11_hugeLength_0 12 rfl rfl)
theorem dJ11_hugeLength_15 : decode cJ11_hugeLength 15 = .ok (.dup, 1) := dk_89 (dk_at dksJ11_hugeLength_0 15 rfl rfl)
theorem dJ11_hugeLength_16 : decode cJ11_hugeLength 16 = .ok (.invokespecial 91, 3) := dk_183 0 91 (dk_at dksJ11_hugeLength_0 16 rfl rfl)
theorem dJ11_hugeLength_19 : decode cJ11_hugeLength 19 = .ok (.ldc 206, 2) := dk_18 206 (dk_at dksJ11_hugeLength_0 19 rfl rfl)
theorem dJ11_hugeLength_21 : decode cJ11_hugeLength 21 = .ok (.invokevirtual 94, 3) := dk_182 0 94 (dk_at dksJ11_hugeLength_0 21 rfl rfl)
theorem dJ11_hugeLength_24 : decode cJ11_hugeLength 24 = .ok (.iload_n 0, 1) := dk_26 (dk_at dksJ11_hugeLength_1 0 rfl rfl)
theorem dJ11_hugeLength_25 : decode cJ11_hugeLength 25 = .ok (.invokevirtual 98, 3) := dk_182 0 98 (dk_at dksJ11_hugeLength_1 1 rfl rfl)
theorem dJ11_hugeLength_28 : decode cJ11_hugeLength 28 = .ok (.ldc 208, 2) := dk_18 208 (dk_at dksJ11_hugeLength_1 4 rfl rfl)
theorem dJ11_hugeLength_30 : decode cJ11_hugeLength 30 = .ok (.invokevirtual 94, 3) := dk_182 0 94 (dk_at dksJ11_hugeLength_1 6 rfl rfl)
theorem dJ11_hugeLength_33 : decode cJ11_hugeLength 33 = .ok (.iload_n 1, 1) := dk_27 (dk_at dksJ11_hugeLength_1 9 rfl rfl)
theorem dJ11_hugeLength_34 : decode cJ11_hugeLength 34 = .ok (.invokevirtual 98, 3) := dk_182 0 98 (dk_at dksJ11_hugeLength_1 10 rfl rfl)
theorem dJ11_hugeLength_37 : decode cJ11_hugeLength 37 = .ok (.ldc 210, 2) := dk_18 210 (dk_at dksJ11_hugeLength_1 13 rfl rfl)
theorem dJ11_hugeLength_39 : decode cJ11_hugeLength 39 = .ok (.invokevirtual 94, 3) := dk_182 0 94 (dk_at dksJ11_hugeLength_1 15 rfl rfl)
theorem dJ11_hugeLength_42 : decode cJ11_hugeLength 42 = .ok (.invokevirtual 101, 3) := dk_182 0 101 (dk_at dksJ11_hugeLength_1 18 rfl rfl)
theorem dJ11_hugeLength_45 : decode cJ11_hugeLength 45 = .ok (.invokespecial 212, 3) := dk_183 0 212 (dk_at dksJ11_hugeLength_1 21 rfl rfl)
theorem dJ11_hugeLength_48 : decode cJ11_hugeLength 48 = .ok (.athrow, 1) := dk_191 (dk_at dksJ11_hugeLength_2 0 rfl rfl)
theorem dJ11_hugeLength_49 : decode cJ11_hugeLength 49 = .ok (.iload_n 2, 1) := dk_28 (dk_at dksJ11_hugeLength_2 1 rfl rfl)
theorem dJ11_hugeLength_50 : decode cJ11_hugeLength 50 = .ok (.ldc 200, 2) := dk_18 200 (dk_at dksJ11_hugeLength_2 2 rfl rfl)
theorem dJ11_hugeLength_52 : decode cJ11_hugeLength 52 = .ok (.if_icmp .gt 6, 3) := dk_163 0 6 (dk_at dksJ11_hugeLength_2 4 rfl rfl)
theorem dJ11_hugeLength_55 : decode cJ11_hugeLength 55 = .ok (.ldc 200, 2) := dk_18 200 (dk_at dksJ11_hugeLength_2 7 rfl rfl)
theorem dJ11_hugeLength_57 : decode cJ11_hugeLength 57 = .ok (.ireturn, 1) := dk_172 (dk_at dksJ11_hugeLength_2 9 rfl rfl)
theorem dJ11_hugeLength_58 : decode cJ11_hugeLength 58 = .ok (.iload_n 2, 1) := dk_28 (dk_at dksJ11_hugeLength_2 10 rfl rfl)
theorem dJ11_hugeLength_59 : decode cJ11_hugeLength 59 = .ok (.ireturn, 1) := dk_172 (dk_at dksJ11_hugeLength_2 11 rfl rfl)
theorem q89 : (Jvm.Cond.initialized "jdk/internal/util/ArraysSupport") ∈ lw_all := lw_g (lw_at lw_m1 20 rfl) rfl
theorem q686 : (Jvm.Cond.static ({ cls := "jdk/internal/util/ArraysSupport", name := "newLength", desc := "(III)I" } : Jvm.MethodName)) ∈ lw_all := lw_g (lw_at lw_m3 137 rfl) rfl
theorem q687 : (Jvm.Cond.code ({ cls := "jdk/internal/util/ArraysSupport", name := "newLength", desc := "(III)I" } : Jvm.MethodName) prog_34_method_27_code (4 : Nat) (Option.some Jvm.ClassFile.FieldType.int)) ∈ lw_all := lw_g (lw_at lw_m3 138 rfl) rfl
theorem q688 : (Jvm.Cond.methodLink "jdk/internal/util/ArraysSupport" (194 : Nat) ({ cls := "java/lang/Math", name := "max", desc := "(II)I" } : Jvm.MethodName)) ∈ lw_all := lw_g (lw_at lw_m3 139 rfl) rfl
theorem q691 : (Jvm.Cond.constant "jdk/internal/util/ArraysSupport" (200 : Nat) (2147483639 : Int32)) ∈ lw_all := lw_g (lw_at lw_m3 142 rfl) rfl
theorem q692 : (Jvm.Cond.methodLink "jdk/internal/util/ArraysSupport" (201 : Nat) ({ cls := "jdk/internal/util/ArraysSupport", name := "hugeLength", desc := "(II)I" } : Jvm.MethodName)) ∈ lw_all := lw_g (lw_at lw_m3 143 rfl) rfl
theorem q693 : (Jvm.Cond.static ({ cls := "jdk/internal/util/ArraysSupport", name := "hugeLength", desc := "(II)I" } : Jvm.MethodName)) ∈ lw_all := lw_g (lw_at lw_m3 144 rfl) rfl
theorem q694 : (Jvm.Cond.code ({ cls := "jdk/internal/util/ArraysSupport", name := "hugeLength", desc := "(II)I" } : Jvm.MethodName) prog_34_method_28_code (3 : Nat) (Option.some Jvm.ClassFile.FieldType.int)) ∈ lw_all := lw_g (lw_at lw_m3 145 rfl) rfl
/-! java/util/Arrays -/
set_option maxRecDepth 100000
def RJ12 : String := "java/util/Arrays"
abbrev cJ12_copyOf : ByteArray := prog_28_method_119_code
def yJ12_copyOf : MethodName := ⟨RJ12, "copyOf", "([Ljava/lang/Object;I)[Ljava/lang/Object;"⟩
def dkwJ12_copyOf_0 : List UInt8 := [42, 27, 42, 182, 0, 86, 184, 1, 44, 176]
abbrev dktJ12_copyOf_0 : List UInt8 := dkwJ12_copyOf_0 ++ []
theorem dksJ12_copyOf_0 : cJ12_copyOf.data.toList.drop 0 = dktJ12_copyOf_0 := by decide +kernel
theorem dJ12_copyOf_0 : decode cJ12_copyOf 0 = .ok (.aload_n 0, 1) := dk_42 (dk_at dksJ12_copyOf_0 0 rfl rfl)
theorem dJ12_copyOf_1 : decode cJ12_copyOf 1 = .ok (.iload_n 1, 1) := dk_27 (dk_at dksJ12_copyOf_0 1 rfl rfl)
theorem dJ12_copyOf_2 : decode cJ12_copyOf 2 = .ok (.aload_n 0, 1) := dk_42 (dk_at dksJ12_copyOf_0 2 rfl rfl)
theorem dJ12_copyOf_3 : decode cJ12_copyOf 3 = .ok (.invokevirtual 86, 3) := dk_182 0 86 (dk_at dksJ12_copyOf_0 3 rfl rfl)
theorem dJ12_copyOf_6 : decode cJ12_copyOf 6 = .ok (.invokestatic 300, 3) := dk_184 1 44 (dk_at dksJ12_copyOf_0 6 rfl rfl)
theorem dJ12_copyOf_9 : decode cJ12_copyOf 9 = .ok (.areturn, 1) := dk_176 (dk_at dksJ12_copyOf_0 9 rfl rfl)
abbrev cJ12_copyOf_2 : ByteArray := prog_28_method_120_code
def yJ12_copyOf_2 : MethodName := ⟨RJ12, "copyOf", "([Ljava/lang/Object;ILjava/lang/Class;)[Ljava/lang/Object;"⟩
def dkwJ12_copyOf_2_1 : List UInt8 := [78, 42, 3, 45, 3, 42, 190, 27, 184, 1, 48, 184, 0, 150, 45, 176]
abbrev dktJ12_copyOf_2_1 : List UInt8 := dkwJ12_copyOf_2_1 ++ []
def dkwJ12_copyOf_2_0 : List UInt8 := [44, 18, 110, 166, 0, 10, 27, 189, 0, 2, 167, 0, 14, 44, 182, 0, 90, 27, 184, 0, 95, 192, 0, 110]
abbrev dktJ12_copyOf_2_0 : List UInt8 := dkwJ12_copyOf_2_0 ++ dktJ12_copyOf_2_1
theorem dksJ12_copyOf_2_0 : cJ12_copyOf_2.data.toList.drop 0 = dktJ12_copyOf_2_0 := by decide +kernel
theorem dksJ12_copyOf_2_1 : cJ12_copyOf_2.data.toList.drop 24 = dktJ12_copyOf_2_1 := dk_seg dksJ12_copyOf_2_0 24 rfl rfl
theorem dJ12_copyOf_2_0 : decode cJ12_copyOf_2 0 = .ok (.aload_n 2, 1) := dk_44 (dk_at dksJ12_copyOf_2_0 0 rfl rfl)
theorem dJ12_copyOf_2_1 : decode cJ12_copyOf_2 1 = .ok (.ldc 110, 2) := dk_18 110 (dk_at dksJ12_copyOf_2_0 1 rfl rfl)
theorem dJ12_copyOf_2_3 : decode cJ12_copyOf_2 3 = .ok (.if_acmp .ne 10, 3) := dk_166 0 10 (dk_at dksJ12_copyOf_2_0 3 rfl rfl)
theorem dJ12_copyOf_2_6 : decode cJ12_copyOf_2 6 = .ok (.iload_n 1, 1) := dk_27 (dk_at dksJ12_copyOf_2_0 6 rfl rfl)
theorem dJ12_copyOf_2_7 : decode cJ12_copyOf_2 7 = .ok (.anewarray 2, 3) := dk_189 0 2 (dk_at dksJ12_copyOf_2_0 7 rfl rfl)
theorem dJ12_copyOf_2_10 : decode cJ12_copyOf_2 10 = .ok (.goto 14, 3) := dk_167 0 14 (dk_at dksJ12_copyOf_2_0 10 rfl rfl)
theorem dJ12_copyOf_2_13 : decode cJ12_copyOf_2 13 = .ok (.aload_n 2, 1) := dk_44 (dk_at dksJ12_copyOf_2_0 13 rfl rfl)
theorem dJ12_copyOf_2_14 : decode cJ12_copyOf_2 14 = .ok (.invokevirtual 90, 3) := dk_182 0 90 (dk_at dksJ12_copyOf_2_0 14 rfl rfl)
theorem dJ12_copyOf_2_17 : decode cJ12_copyOf_2 17 = .ok (.iload_n 1, 1) := dk_27 (dk_at dksJ12_copyOf_2_0 17 rfl rfl)
theorem dJ12_copyOf_2_18 : decode cJ12_copyOf_2 18 = .ok (.invokestatic 95, 3) := dk_184 0 95 (dk_at dksJ12_copyOf_2_0 18 rfl rfl)
theorem dJ12_copyOf_2_21 : decode cJ12_copyOf_2 21 = .ok (.checkcast 110, 3) := dk_192 0 110 (dk_at dksJ12_copyOf_2_0 21 rfl rfl)
theorem dJ12_copyOf_2_24 : decode cJ12_copyOf_2 24 = .ok (.astore_n 3, 1) := dk_78 (dk_at dksJ12_copyOf_2_1 0 rfl rfl)
theorem dJ12_copyOf_2_25 : decode cJ12_copyOf_2 25 = .ok (.aload_n 0, 1) := dk_42 (dk_at dksJ12_copyOf_2_1 1 rfl rfl)
theorem dJ12_copyOf_2_26 : decode cJ12_copyOf_2 26 = .ok (.iconst 0, 1) := dk_3 (dk_at dksJ12_copyOf_2_1 2 rfl rfl)
theorem dJ12_copyOf_2_27 : decode cJ12_copyOf_2 27 = .ok (.aload_n 3, 1) := dk_45 (dk_at dksJ12_copyOf_2_1 3 rfl rfl)
theorem dJ12_copyOf_2_28 : decode cJ12_copyOf_2 28 = .ok (.iconst 0, 1) := dk_3 (dk_at dksJ12_copyOf_2_1 4 rfl rfl)
theorem dJ12_copyOf_2_29 : decode cJ12_copyOf_2 29 = .ok (.aload_n 0, 1) := dk_42 (dk_at dksJ12_copyOf_2_1 5 rfl rfl)
theorem dJ12_copyOf_2_30 : decode cJ12_copyOf_2 30 = .ok (.arraylength, 1) := dk_190 (dk_at dksJ12_copyOf_2_1 6 rfl rfl)
theorem dJ12_copyOf_2_31 : decode cJ12_copyOf_2 31 = .ok (.iload_n 1, 1) := dk_27 (dk_at dksJ12_copyOf_2_1 7 rfl rfl)
theorem dJ12_copyOf_2_32 : decode cJ12_copyOf_2 32 = .ok (.invokestatic 304, 3) := dk_184 1 48 (dk_at dksJ12_copyOf_2_1 8 rfl rfl)
theorem dJ12_copyOf_2_35 : decode cJ12_copyOf_2 35 = .ok (.invokestatic 150, 3) := dk_184 0 150 (dk_at dksJ12_copyOf_2_1 11 rfl rfl)
theorem dJ12_copyOf_2_38 : decode cJ12_copyOf_2 38 = .ok (.aload_n 3, 1) := dk_45 (dk_at dksJ12_copyOf_2_1 14 rfl rfl)
theorem dJ12_copyOf_2_39 : decode cJ12_copyOf_2 39 = .ok (.areturn, 1) := dk_176 (dk_at dksJ12_copyOf_2_1 15 rfl rfl)
abbrev cJ12_fill : ByteArray := prog_28_method_111_code
def yJ12_fill : MethodName := ⟨RJ12, "fill", "([ZZ)V"⟩
def dkwJ12_fill_0 : List UInt8 := [3, 61, 42, 190, 62, 28, 29, 162, 0, 13, 42, 28, 27, 84, 132, 2, 1, 167, 255, 244, 177]
abbrev dktJ12_fill_0 : List UInt8 := dkwJ12_fill_0 ++ []
theorem dksJ12_fill_0 : cJ12_fill.data.toList.drop 0 = dktJ12_fill_0 := by decide +kernel
theorem dJ12_fill_0 : decode cJ12_fill 0 = .ok (.iconst 0, 1) := dk_3 (dk_at dksJ12_fill_0 0 rfl rfl)
theorem dJ12_fill_1 : decode cJ12_fill 1 = .ok (.istore_n 2, 1) := dk_61 (dk_at dksJ12_fill_0 1 rfl rfl)
theorem dJ12_fill_2 : decode cJ12_fill 2 = .ok (.aload_n 0, 1) := dk_42 (dk_at dksJ12_fill_0 2 rfl rfl)
theorem dJ12_fill_3 : decode cJ12_fill 3 = .ok (.arraylength, 1) := dk_190 (dk_at dksJ12_fill_0 3 rfl rfl)
theorem dJ12_fill_4 : decode cJ12_fill 4 = .ok (.istore_n 3, 1) := dk_62 (dk_at dksJ12_fill_0 4 rfl rfl)
theorem dJ12_fill_5 : decode cJ12_fill 5 = .ok (.iload_n 2, 1) := dk_28 (dk_at dksJ12_fill_0 5 rfl rfl)
theorem dJ12_fill_6 : decode cJ12_fill 6 = .ok (.iload_n 3, 1) := dk_29 (dk_at dksJ12_fill_0 6 rfl rfl)
theorem dJ12_fill_7 : decode cJ12_fill 7 = .ok (.if_icmp .ge 13, 3) := dk_162 0 13 (dk_at dksJ12_fill_0 7 rfl rfl)
theorem dJ12_fill_10 : decode cJ12_fill 10 = .ok (.aload_n 0, 1) := dk_42 (dk_at dksJ12_fill_0 10 rfl rfl)
theorem dJ12_fill_11 : decode cJ12_fill 11 = .ok (.iload_n 2, 1) := dk_28 (dk_at dksJ12_fill_0 11 rfl rfl)
theorem dJ12_fill_12 : decode cJ12_fill 12 = .ok (.iload_n 1, 1) := dk_27 (dk_at dksJ12_fill_0 12 rfl rfl)
theorem dJ12_fill_13 : decode cJ12_fill 13 = .ok (.bastore, 1) := dk_84 (dk_at dksJ12_fill_0 13 rfl rfl)
theorem dJ12_fill_14 : decode cJ12_fill 14 = .ok (.iinc 2 1, 3) := dk_132 2 1 (dk_at dksJ12_fill_0 14 rfl rfl)
theorem dJ12_fill_17 : decode cJ12_fill 17 = .ok (.goto (-12), 3) := dk_167 255 244 (dk_at dksJ12_fill_0 17 rfl rfl)
theorem dJ12_fill_20 : decode cJ12_fill 20 = .ok (.return_, 1) := dk_177 (dk_at dksJ12_fill_0 20 rfl rfl)
abbrev cJ12_fill_2 : ByteArray := prog_28_method_101_code
def yJ12_fill_2 : MethodName := ⟨RJ12, "fill", "([JJ)V"⟩
def dkwJ12_fill_2_0 : List UInt8 := [3, 62, 42, 190, 54, 4, 29, 21, 4, 162, 0, 13, 42, 29, 31, 80, 132, 3, 1, 167, 255, 243, 177]
abbrev dktJ12_fill_2_0 : List UInt8 := dkwJ12_fill_2_0 ++ []
theorem dksJ12_fill_2_0 : cJ12_fill_2.data.toList.drop 0 = dktJ12_fill_2_0 := by decide +kernel
theorem dJ12_fill_2_0 : decode cJ12_fill_2 0 = .ok (.iconst 0, 1) := dk_3 (dk_at dksJ12_fill_2_0 0 rfl rfl)
theorem dJ12_fill_2_1 : decode cJ12_fill_2 1 = .ok (.istore_n 3, 1) := dk_62 (dk_at dksJ12_fill_2_0 1 rfl rfl)
theorem dJ12_fill_2_2 : decode cJ12_fill_2 2 = .ok (.aload_n 0, 1) := dk_42 (dk_at dksJ12_fill_2_0 2 rfl rfl)
theorem dJ12_fill_2_3 : decode cJ12_fill_2 3 = .ok (.arraylength, 1) := dk_190 (dk_at dksJ12_fill_2_0 3 rfl rfl)
theorem dJ12_fill_2_4 : decode cJ12_fill_2 4 = .ok (.istore 4, 2) := dk_54 4 (dk_at dksJ12_fill_2_0 4 rfl rfl)
theorem dJ12_fill_2_6 : decode cJ12_fill_2 6 = .ok (.iload_n 3, 1) := dk_29 (dk_at dksJ12_fill_2_0 6 rfl rfl)
theorem dJ12_fill_2_7 : decode cJ12_fill_2 7 = .ok (.iload 4, 2) := dk_21 4 (dk_at dksJ12_fill_2_0 7 rfl rfl)
theorem dJ12_fill_2_9 : decode cJ12_fill_2 9 = .ok (.if_icmp .ge 13, 3) := dk_162 0 13 (dk_at dksJ12_fill_2_0 9 rfl rfl)
theorem dJ12_fill_2_12 : decode cJ12_fill_2 12 = .ok (.aload_n 0, 1) := dk_42 (dk_at dksJ12_fill_2_0 12 rfl rfl)
theorem dJ12_fill_2_13 : decode cJ12_fill_2 13 = .ok (.iload_n 3, 1) := dk_29 (dk_at dksJ12_fill_2_0 13 rfl rfl)
theorem dJ12_fill_2_14 : decode cJ12_fill_2 14 = .ok (.lload_n 1, 1) := dk_31 (dk_at dksJ12_fill_2_0 14 rfl rfl)
theorem dJ12_fill_2_15 : decode cJ12_fill_2 15 = .ok (.lastore, 1) := dk_80 (dk_at dksJ12_fill_2_0 15 rfl rfl)
theorem dJ12_fill_2_16 : decode cJ12_fill_2 16 = .ok (.iinc 3 1, 3) := dk_132 3 1 (dk_at dksJ12_fill_2_0 16 rfl rfl)
theorem dJ12_fill_2_19 : decode cJ12_fill_2 19 = .ok (.goto (-13), 3) := dk_167 255 243 (dk_at dksJ12_fill_2_0 19 rfl rfl)
theorem dJ12_fill_2_22 : decode cJ12_fill_2 22 = .ok (.return_, 1) := dk_177 (dk_at dksJ12_fill_2_0 22 rfl rfl)
abbrev cJ12_fill_3 : ByteArray := prog_28_method_103_code
def yJ12_fill_3 : MethodName := ⟨RJ12, "fill", "([II)V"⟩
def dkwJ12_fill_3_0 : List UInt8 := [3, 61, 42, 190, 62, 28, 29, 162, 0, 13, 42, 28, 27, 79, 132, 2, 1, 167, 255, 244, 177]
abbrev dktJ12_fill_3_0 : List UInt8 := dkwJ12_fill_3_0 ++ []
theorem dksJ12_fill_3_0 : cJ12_fill_3.data.toList.drop 0 = dktJ12_fill_3_0 := by decide +kernel
theorem dJ12_fill_3_0 : decode cJ12_fill_3 0 = .ok (.iconst 0, 1) := dk_3 (dk_at dksJ12_fill_3_0 0 rfl rfl)
theorem dJ12_fill_3_1 : decode cJ12_fill_3 1 = .ok (.istore_n 2, 1) := dk_61 (dk_at dksJ12_fill_3_0 1 rfl rfl)
theorem dJ12_fill_3_2 : decode cJ12_fill_3 2 = .ok (.aload_n 0, 1) := dk_42 (dk_at dksJ12_fill_3_0 2 rfl rfl)
theorem dJ12_fill_3_3 : decode cJ12_fill_3 3 = .ok (.arraylength, 1) := dk_190 (dk_at dksJ12_fill_3_0 3 rfl rfl)
theorem dJ12_fill_3_4 : decode cJ12_fill_3 4 = .ok (.istore_n 3, 1) := dk_62 (dk_at dksJ12_fill_3_0 4 rfl rfl)
theorem dJ12_fill_3_5 : decode cJ12_fill_3 5 = .ok (.iload_n 2, 1) := dk_28 (dk_at dksJ12_fill_3_0 5 rfl rfl)
theorem dJ12_fill_3_6 : decode cJ12_fill_3 6 = .ok (.iload_n 3, 1) := dk_29 (dk_at dksJ12_fill_3_0 6 rfl rfl)
theorem dJ12_fill_3_7 : decode cJ12_fill_3 7 = .ok (.if_icmp .ge 13, 3) := dk_162 0 13 (dk_at dksJ12_fill_3_0 7 rfl rfl)
theorem dJ12_fill_3_10 : decode cJ12_fill_3 10 = .ok (.aload_n 0, 1) := dk_42 (dk_at dksJ12_fill_3_0 10 rfl rfl)
theorem dJ12_fill_3_11 : decode cJ12_fill_3 11 = .ok (.iload_n 2, 1) := dk_28 (dk_at dksJ12_fill_3_0 11 rfl rfl)
theorem dJ12_fill_3_12 : decode cJ12_fill_3 12 = .ok (.iload_n 1, 1) := dk_27 (dk_at dksJ12_fill_3_0 12 rfl rfl)
theorem dJ12_fill_3_13 : decode cJ12_fill_3 13 = .ok (.iastore, 1) := dk_79 (dk_at dksJ12_fill_3_0 13 rfl rfl)
theorem dJ12_fill_3_14 : decode cJ12_fill_3 14 = .ok (.iinc 2 1, 3) := dk_132 2 1 (dk_at dksJ12_fill_3_0 14 rfl rfl)
theorem dJ12_fill_3_17 : decode cJ12_fill_3 17 = .ok (.goto (-12), 3) := dk_167 255 244 (dk_at dksJ12_fill_3_0 17 rfl rfl)
theorem dJ12_fill_3_20 : decode cJ12_fill_3 20 = .ok (.return_, 1) := dk_177 (dk_at dksJ12_fill_3_0 20 rfl rfl)
theorem q90 : (Jvm.Cond.initialized "java/util/Arrays") ∈ lw_all := lw_g (lw_at lw_m1 21 rfl) rfl
theorem q696 : (Jvm.Cond.static ({ cls := "java/util/Arrays", name := "copyOf", desc := "([Ljava/lang/Object;I)[Ljava/lang/Object;" } : Jvm.MethodName)) ∈ lw_all := lw_g (lw_at lw_m3 147 rfl) rfl
theorem q697 : (Jvm.Cond.code ({ cls := "java/util/Arrays", name := "copyOf", desc := "([Ljava/lang/Object;I)[Ljava/lang/Object;" } : Jvm.MethodName) prog_28_method_119_code (2 : Nat) (Option.some (Jvm.ClassFile.FieldType.array (Jvm.ClassFile.FieldType.object "java/lang/Object")))) ∈ lw_all := lw_g (lw_at lw_m3 148 rfl) rfl
theorem q698 : (Jvm.Cond.methodLink "java/util/Arrays" (86 : Nat) ({ cls := "java/lang/Object", name := "getClass", desc := "()Ljava/lang/Class;" } : Jvm.MethodName)) ∈ lw_all := lw_g (lw_at lw_m3 149 rfl) rfl
theorem q710 : (Jvm.Cond.methodLink "java/util/Arrays" (300 : Nat) ({ cls := "java/util/Arrays", name := "copyOf", desc := "([Ljava/lang/Object;ILjava/lang/Class;)[Ljava/lang/Object;" } : Jvm.MethodName)) ∈ lw_all := lw_g (lw_at lw_m3 161 rfl) rfl
theorem q711 : (Jvm.Cond.static ({ cls := "java/util/Arrays", name := "copyOf", desc := "([Ljava/lang/Object;ILjava/lang/Class;)[Ljava/lang/Object;" } : Jvm.MethodName)) ∈ lw_all := lw_g (lw_at lw_m3 162 rfl) rfl
theorem q712 : (Jvm.Cond.code ({ cls := "java/util/Arrays", name := "copyOf", desc := "([Ljava/lang/Object;ILjava/lang/Class;)[Ljava/lang/Object;" } : Jvm.MethodName) prog_28_method_120_code (4 : Nat) (Option.some (Jvm.ClassFile.FieldType.array (Jvm.ClassFile.FieldType.object "java/lang/Object")))) ∈ lw_all := lw_g (lw_at lw_m3 163 rfl) rfl
theorem q713 : (Jvm.Cond.classLink "java/util/Arrays" (110 : Nat) "[Ljava/lang/Object;") ∈ lw_all := lw_g (lw_at lw_m3 164 rfl) rfl
theorem q715 : (Jvm.Cond.classLink "java/util/Arrays" (2 : Nat) "java/lang/Object") ∈ lw_all := lw_g (lw_at lw_m3 166 rfl) rfl
theorem q716 : (Jvm.Cond.methodLink "java/util/Arrays" (304 : Nat) ({ cls := "java/lang/Math", name := "min", desc := "(II)I" } : Jvm.MethodName)) ∈ lw_all := lw_g (lw_at lw_m3 167 rfl) rfl
theorem q719 : (Jvm.Cond.methodLink "java/util/Arrays" (150 : Nat) ({ cls := "java/lang/System", name := "arraycopy", desc := "(Ljava/lang/Object;ILjava/lang/Object;II)V" } : Jvm.MethodName)) ∈ lw_all := lw_g (lw_at lw_m3 170 rfl) rfl
theorem q755 : (Jvm.Cond.static ({ cls := "java/util/Arrays", name := "fill", desc := "([ZZ)V" } : Jvm.MethodName)) ∈ lw_all := lw_g (lw_at lw_m3 206 rfl) rfl
theorem q756 : (Jvm.Cond.code ({ cls := "java/util/Arrays", name := "fill", desc := "([ZZ)V" } : Jvm.MethodName) prog_28_method_111_code (4 : Nat) (Option.none : Option Jvm.ClassFile.FieldType)) ∈ lw_all := lw_g (lw_at lw_m3 207 rfl) rfl
theorem q807 : (Jvm.Cond.static ({ cls := "java/util/Arrays", name := "fill", desc := "([JJ)V" } : Jvm.MethodName)) ∈ lw_all := lw_g (lw_at lw_m4 18 rfl) rfl
theorem q808 : (Jvm.Cond.code ({ cls := "java/util/Arrays", name := "fill", desc := "([JJ)V" } : Jvm.MethodName) prog_28_method_101_code (5 : Nat) (Option.none : Option Jvm.ClassFile.FieldType)) ∈ lw_all := lw_g (lw_at lw_m4 19 rfl) rfl
theorem q894 : (Jvm.Cond.static ({ cls := "java/util/Arrays", name := "fill", desc := "([II)V" } : Jvm.MethodName)) ∈ lw_all := lw_g (lw_at lw_m4 105 rfl) rfl
theorem q895 : (Jvm.Cond.code ({ cls := "java/util/Arrays", name := "fill", desc := "([II)V" } : Jvm.MethodName) prog_28_method_103_code (4 : Nat) (Option.none : Option Jvm.ClassFile.FieldType)) ∈ lw_all := lw_g (lw_at lw_m4 106 rfl) rfl
/-! java/lang/Integer -/
set_option maxRecDepth 100000
def RJ13 : String := "java/lang/Integer"
abbrev cJ13_bitCount : ByteArray := prog_15_method_49_code
def yJ13_bitCount : MethodName := ⟨RJ13, "bitCount", "(I)I"⟩
def dkwJ13_bitCount_2 : List UInt8 := [26, 16, 63, 126, 172]
abbrev dktJ13_bitCount_2 : List UInt8 := dkwJ13_bitCount_2 ++ []
def dkwJ13_bitCount_1 : List UInt8 := [26, 26, 7, 124, 96, 19, 1, 11, 126, 59, 26, 26, 16, 8, 124, 96, 59, 26, 26, 16, 16, 124, 96, 59]
abbrev dktJ13_bitCount_1 : List UInt8 := dkwJ13_bitCount_1 ++ dktJ13_bitCount_2
def dkwJ13_bitCount_0 : List UInt8 := [26, 26, 4, 124, 19, 1, 9, 126, 100, 59, 26, 19, 1, 10, 126, 26, 5, 124, 19, 1, 10, 126, 96, 59]
abbrev dktJ13_bitCount_0 : List UInt8 := dkwJ13_bitCount_0 ++ dktJ13_bitCount_1
theorem dksJ13_bitCount_0 : cJ13_bitCount.data.toList.drop 0 = dktJ13_bitCount_0 := by decide +kernel
theorem dksJ13_bitCount_1 : cJ13_bitCount.data.toList.drop 24 = dktJ13_bitCount_1 := dk_seg dksJ13_bitCount_0 24 rfl rfl
theorem dksJ13_bitCount_2 : cJ13_bitCount.data.toList.drop 48 = dktJ13_bitCount_2 := dk_seg dksJ13_bitCount_1 24 rfl rfl
theorem dJ13_bitCount_0 : decode cJ13_bitCount 0 = .ok (.iload_n 0, 1) := dk_26 (dk_at dksJ13_bitCount_0 0 rfl rfl)
theorem dJ13_bitCount_1 : decode cJ13_bitCount 1 = .ok (.iload_n 0, 1) := dk_26 (dk_at dksJ13_bitCount_0 1 rfl rfl)
theorem dJ13_bitCount_2 : decode cJ13_bitCount 2 = .ok (.iconst 1, 1) := dk_4 (dk_at dksJ13_bitCount_0 2 rfl rfl)
theorem dJ13_bitCount_3 : decode cJ13_bitCount 3 = .ok (.iushr, 1) := dk_124 (dk_at dksJ13_bitCount_0 3 rfl rfl)
theorem dJ13_bitCount_4 : decode cJ13_bitCount 4 = .ok (.ldc_w 265, 3) := dk_19 1 9 (dk_at dksJ13_bitCount_0 4 rfl rfl)
theorem dJ13_bitCount_7 : decode cJ13_bitCount 7 = .ok (.iand, 1) := dk_126 (dk_at dksJ13_bitCount_0 7 rfl rfl)
theorem dJ13_bitCount_8 : decode cJ13_bitCount 8 = .ok (.isub, 1) := dk_100 (dk_at dksJ13_bitCount_0 8 rfl rfl)
theorem dJ13_bitCount_9 : decode cJ13_bitCount 9 = .ok (.istore_n 0, 1) := dk_59 (dk_at dksJ13_bitCount_0 9 rfl rfl)
theorem dJ13_bitCount_10 : decode cJ13_bitCount 10 = .ok (.iload_n 0, 1) := dk_26 (dk_at dksJ13_bitCount_0 10 rfl rfl)
theorem dJ13_bitCount_11 : decode cJ13_bitCount 11 = .ok (.ldc_w 266, 3) := dk_19 1 10 (dk_at dksJ13_bitCount_0 11 rfl rfl)
theorem dJ13_bitCount_14 : decode cJ13_bitCount 14 = .ok (.iand, 1) := dk_126 (dk_at dksJ13_bitCount_0 14 rfl rfl)
theorem dJ13_bitCount_15 : decode cJ13_bitCount 15 = .ok (.iload_n 0, 1) := dk_26 (dk_at dksJ13_bitCount_0 15 rfl rfl)
theorem dJ13_bitCount_16 : decode cJ13_bitCount 16 = .ok (.iconst 2, 1) := dk_5 (dk_at dksJ13_bitCount_0 16 rfl rfl)
theorem dJ13_bitCount_17 : decode cJ13_bitCount 17 = .ok (.iushr, 1) := dk_124 (dk_at dksJ13_bitCount_0 17 rfl rfl)
theorem dJ13_bitCount_18 : decode cJ13_bitCount 18 = .ok (.ldc_w 266, 3) := dk_19 1 10 (dk_at dksJ13_bitCount_0 18 rfl rfl)
theorem dJ13_bitCount_21 : decode cJ13_bitCount 21 = .ok (.iand, 1) := dk_126 (dk_at dksJ13_bitCount_0 21 rfl rfl)
theorem dJ13_bitCount_22 : decode cJ13_bitCount 22 = .ok (.iadd, 1) := dk_96 (dk_at dksJ13_bitCount_0 22 rfl rfl)
theorem dJ13_bitCount_23 : decode cJ13_bitCount 23 = .ok (.istore_n 0, 1) := dk_59 (dk_at dksJ13_bitCount_0 23 rfl rfl)
theorem dJ13_bitCount_24 : decode cJ13_bitCount 24 = .ok (.iload_n 0, 1) := dk_26 (dk_at dksJ13_bitCount_1 0 rfl rfl)
theorem dJ13_bitCount_25 : decode cJ13_bitCount 25 = .ok (.iload_n 0, 1) := dk_26 (dk_at dksJ13_bitCount_1 1 rfl rfl)
theorem dJ13_bitCount_26 : decode cJ13_bitCount 26 = .ok (.iconst 4, 1) := dk_7 (dk_at dksJ13_bitCount_1 2 rfl rfl)
theorem dJ13_bitCount_27 : decode cJ13_bitCount 27 = .ok (.iushr, 1) := dk_124 (dk_at dksJ13_bitCount_1 3 rfl rfl)
theorem dJ13_bitCount_28 : decode cJ13_bitCount 28 = .ok (.iadd, 1) := dk_96 (dk_at dksJ13_bitCount_1 4 rfl rfl)
theorem dJ13_bitCount_29 : decode cJ13_bitCount 29 = .ok (.ldc_w 267, 3) := dk_19 1 11 (dk_at dksJ13_bitCount_1 5 rfl rfl)
theorem dJ13_bitCount_32 : decode cJ13_bitCount 32 = .ok (.iand, 1) := dk_126 (dk_at dksJ13_bitCount_1 8 rfl rfl)
theorem dJ13_bitCount_33 : decode cJ13_bitCount 33 = .ok (.istore_n 0, 1) := dk_59 (dk_at dksJ13_bitCount_1 9 rfl rfl)
theorem dJ13_bitCount_34 : decode cJ13_bitCount 34 = .ok (.iload_n 0, 1) := dk_26 (dk_at dksJ13_bitCount_1 10 rfl rfl)
theorem dJ13_bitCount_35 : decode cJ13_bitCount 35 = .ok (.iload_n 0, 1) := dk_26 (dk_at dksJ13_bitCount_1 11 rfl rfl)
theorem dJ13_bitCount_36 : decode cJ13_bitCount 36 = .ok (.bipush 8, 2) := dk_16 8 (dk_at dksJ13_bitCount_1 12 rfl rfl)
theorem dJ13_bitCount_38 : decode cJ13_bitCount 38 = .ok (.iushr, 1) := dk_124 (dk_at dksJ13_bitCount_1 14 rfl rfl)
theorem dJ13_bitCount_39 : decode cJ13_bitCount 39 = .ok (.iadd, 1) := dk_96 (dk_at dksJ13_bitCount_1 15 rfl rfl)
theorem dJ13_bitCount_40 : decode cJ13_bitCount 40 = .ok (.istore_n 0, 1) := dk_59 (dk_at dksJ13_bitCount_1 16 rfl rfl)
theorem dJ13_bitCount_41 : decode cJ13_bitCount 41 = .ok (.iload_n 0, 1) := dk_26 (dk_at dksJ13_bitCount_1 17 rfl rfl)
theorem dJ13_bitCount_42 : decode cJ13_bitCount 42 = .ok (.iload_n 0, 1) := dk_26 (dk_at dksJ13_bitCount_1 18 rfl rfl)
theorem dJ13_bitCount_43 : decode cJ13_bitCount 43 = .ok (.bipush 16, 2) := dk_16 16 (dk_at dksJ13_bitCount_1 19 rfl rfl)
theorem dJ13_bitCount_45 : decode cJ13_bitCount 45 = .ok (.iushr, 1) := dk_124 (dk_at dksJ13_bitCount_1 21 rfl rfl)
theorem dJ13_bitCount_46 : decode cJ13_bitCount 46 = .ok (.iadd, 1) := dk_96 (dk_at dksJ13_bitCount_1 22 rfl rfl)
theorem dJ13_bitCount_47 : decode cJ13_bitCount 47 = .ok (.istore_n 0, 1) := dk_59 (dk_at dksJ13_bitCount_1 23 rfl rfl)
theorem dJ13_bitCount_48 : decode cJ13_bitCount 48 = .ok (.iload_n 0, 1) := dk_26 (dk_at dksJ13_bitCount_2 0 rfl rfl)
theorem dJ13_bitCount_49 : decode cJ13_bitCount 49 = .ok (.bipush 63, 2) := dk_16 63 (dk_at dksJ13_bitCount_2 1 rfl rfl)
theorem dJ13_bitCount_51 : decode cJ13_bitCount 51 = .ok (.iand, 1) := dk_126 (dk_at dksJ13_bitCount_2 3 rfl rfl)
theorem dJ13_bitCount_52 : decode cJ13_bitCount 52 = .ok (.ireturn, 1) := dk_172 (dk_at dksJ13_bitCount_2 4 rfl rfl)
theorem q92 : (Jvm.Cond.initialized "java/lang/Integer") ∈ lw_all := lw_g (lw_at lw_m1 23 rfl) rfl
theorem q917 : (Jvm.Cond.static ({ cls := "java/lang/Integer", name := "bitCount", desc := "(I)I" } : Jvm.MethodName)) ∈ lw_all := lw_g (lw_at lw_m4 128 rfl) rfl
theorem q918 : (Jvm.Cond.code ({ cls := "java/lang/Integer", name := "bitCount", desc := "(I)I" } : Jvm.MethodName) prog_15_method_49_code (1 : Nat) (Option.some Jvm.ClassFile.FieldType.int)) ∈ lw_all := lw_g (lw_at lw_m4 129 rfl) rfl
theorem q919 : (Jvm.Cond.constant "java/lang/Integer" (265 : Nat) (1431655765 : Int32)) ∈ lw_all := lw_g (lw_at lw_m4 130 rfl) rfl
theorem q920 : (Jvm.Cond.constant "java/lang/Integer" (266 : Nat) (858993459 : Int32)) ∈ lw_all := lw_g (lw_at lw_m4 131 rfl) rfl
theorem q921 : (Jvm.Cond.constant "java/lang/Integer" (267 : Nat) (252645135 : Int32)) ∈ lw_all := lw_g (lw_at lw_m4 132 rfl) rfl
/-! java/lang/Object -/
set_option maxRecDepth 100000
def RJ14 : String := "java/lang/Object"
abbrev cJ14_init : ByteArray := object_method_1_code
def yJ14_init : MethodName := ⟨RJ14, "<init>", "()V"⟩
theorem dJ14_init_0 : decode cJ14_init 0 = .ok (.return_, 1) := by decide +kernel
theorem q99 : (Jvm.Cond.instanceMethod ({ cls := "java/lang/Object", name := "<init>", desc := "()V" } : Jvm.MethodName)) ∈ lw_all := lw_g (lw_at lw_m1 30 rfl) rfl
theorem q100 : (Jvm.Cond.code ({ cls := "java/lang/Object", name := "<init>", desc := "()V" } : Jvm.MethodName) object_method_1_code (1 : Nat) (Option.none : Option Jvm.ClassFile.FieldType)) ∈ lw_all := lw_g (lw_at lw_m1 31 rfl) rfl
theorem q699 : (Jvm.Cond.instanceMethod ({ cls := "java/lang/Object", name := "getClass", desc := "()Ljava/lang/Class;" } : Jvm.MethodName)) ∈ lw_all := lw_g (lw_at lw_m3 150 rfl) rfl
theorem q700 : (Jvm.Cond.sameMethod "java/lang/Object" "java/lang/Object" "getClass" "()Ljava/lang/Class;") ∈ lw_all := lw_g (lw_at lw_m3 151 rfl) rfl
theorem q709 : (Jvm.Cond.native ({ cls := "java/lang/Object", name := "getClass", desc := "()Ljava/lang/Class;" } : Jvm.MethodName)) ∈ lw_all := lw_g (lw_at lw_m3 160 rfl) rfl
theorem q1590 : (Jvm.Cond.initialized "java/lang/Object") ∈ lw_all := lw_g (lw_at lw_m7 81 rfl) rfl
theorem q1604 : (Jvm.Cond.declares ({ cls := "java/lang/Object", name := "getClass", desc := "()Ljava/lang/Class;" } : Jvm.MethodName)) ∈ lw_tbl := lw_at lw_m7 95 rfl
/-! java/util/AbstractCollection -/
set_option maxRecDepth 100000
def RJ2 : String := "java/util/AbstractCollection"
abbrev cJ2_init : ByteArray := prog_25_method_1_code
def yJ2_init : MethodName := ⟨RJ2, "<init>", "()V"⟩
theorem dJ2_init_0 : decode cJ2_init 0 = .ok (.aload_n 0, 1) := by decide +kernel
theorem dJ2_init_1 : decode cJ2_init 1 = .ok (.invokespecial 1, 3) := by decide +kernel
theorem dJ2_init_4 : decode cJ2_init 4 = .ok (.return_, 1) := by decide +kernel
theorem q75 : (Jvm.Cond.initialized "java/util/AbstractCollection") ∈ lw_all := lw_g (lw_at lw_m1 6 rfl) rfl
theorem q183 : (Jvm.Cond.instanceMethod ({ cls := "java/util/AbstractCollection", name := "<init>", desc := "()V" } : Jvm.MethodName)) ∈ lw_all := lw_g (lw_at lw_m1 114 rfl) rfl
theorem q184 : (Jvm.Cond.code ({ cls := "java/util/AbstractCollection", name := "<init>", desc := "()V" } : Jvm.MethodName) prog_25_method_1_code (1 : Nat) (Option.none : Option Jvm.ClassFile.FieldType)) ∈ lw_all := lw_g (lw_at lw_m1 115 rfl) rfl
theorem q185 : (Jvm.Cond.methodLink "java/util/AbstractCollection" (1 : Nat) ({ cls := "java/lang/Object", name := "<init>", desc := "()V" } : Jvm.MethodName)) ∈ lw_all := lw_g (lw_at lw_m1 116 rfl) rfl
/-! java/util/AbstractList -/
set_option maxRecDepth 100000
def RJ3 : String := "java/util/AbstractList"
abbrev cJ3_init : ByteArray := prog_26_method_1_code
def yJ3_init : MethodName := ⟨RJ3, "<init>", "()V"⟩
def dkwJ3_init_0 : List UInt8 := [42, 183, 0, 1, 42, 3, 181, 0, 7, 177]
abbrev dktJ3_init_0 : List UInt8 := dkwJ3_init_0 ++ []
theorem dksJ3_init_0 : cJ3_init.data.toList.drop 0 = dktJ3_init_0 := by decide +kernel
theorem dJ3_init_0 : decode cJ3_init 0 = .ok (.aload_n 0, 1) := dk_42 (dk_at dksJ3_init_0 0 rfl rfl)
theorem dJ3_init_1 : decode cJ3_init 1 = .ok (.invokespecial 1, 3) := dk_183 0 1 (dk_at dksJ3_init_0 1 rfl rfl)
theorem dJ3_init_4 : decode cJ3_init 4 = .ok (.aload_n 0, 1) := dk_42 (dk_at dksJ3_init_0 4 rfl rfl)
theorem dJ3_init_5 : decode cJ3_init 5 = .ok (.iconst 0, 1) := dk_3 (dk_at dksJ3_init_0 5 rfl rfl)
theorem dJ3_init_6 : decode cJ3_init 6 = .ok (.putfield 7, 3) := dk_181 0 7 (dk_at dksJ3_init_0 6 rfl rfl)
theorem dJ3_init_9 : decode cJ3_init 9 = .ok (.return_, 1) := dk_177 (dk_at dksJ3_init_0 9 rfl rfl)
theorem q76 : (Jvm.Cond.initialized "java/util/AbstractList") ∈ lw_all := lw_g (lw_at lw_m1 7 rfl) rfl
theorem q180 : (Jvm.Cond.instanceMethod ({ cls := "java/util/AbstractList", name := "<init>", desc := "()V" } : Jvm.MethodName)) ∈ lw_all := lw_g (lw_at lw_m1 111 rfl) rfl
theorem q181 : (Jvm.Cond.code ({ cls := "java/util/AbstractList", name := "<init>", desc := "()V" } : Jvm.MethodName) prog_26_method_1_code (1 : Nat) (Option.none : Option Jvm.ClassFile.FieldType)) ∈ lw_all := lw_g (lw_at lw_m1 112 rfl) rfl
theorem q182 : (Jvm.Cond.methodLink "java/util/AbstractList" (1 : Nat) ({ cls := "java/util/AbstractCollection", name := "<init>", desc := "()V" } : Jvm.MethodName)) ∈ lw_all := lw_g (lw_at lw_m1 113 rfl) rfl
theorem q190 : (Jvm.Cond.fieldLink "java/util/AbstractList" (7 : Nat) "java/util/AbstractList" "modCount" "I") ∈ lw_all := lw_g (lw_at lw_m1 121 rfl) rfl
theorem q198 : (Jvm.Cond.soleField "java/util/AbstractList" "modCount") ∈ lw_all := lw_g (lw_at lw_m1 129 rfl) rfl
/-! java/util/ArrayList -/
set_option maxRecDepth 100000
def RJ4 : String := "java/util/ArrayList"
def TJ4 : u_T := fun k => match k with
  | 0 => ("java/util/AbstractList", "modCount", "I", false)
  | 1 => ("java/util/ArrayList", "elementData", "[Ljava/lang/Object;", false)
  | _ => ("java/util/ArrayList", "size", "I", false)
def tyJ4 : Nat → FieldType := fun k => match k with
  | 0 => .int
  | 1 => .array (.object "java/lang/Object")
  | _ => .int
abbrev wsJ40 : List Cond := u_ws RJ4 TJ4 3
theorem nmJ4 : ∀ a, a < 3 → ∀ b, b < 3 → a ≠ b → (TJ4 a).2.1 ≠ (TJ4 b).2.1 := by decide +kernel
theorem tyJ4_ok : ∀ k, k < 3 → parseFieldDescriptor (TJ4 k).2.2.1 = some (tyJ4 k) := by decide +kernel
abbrev cJ4_init : ByteArray := prog_27_method_2_code
def yJ4_init : MethodName := ⟨RJ4, "<init>", "()V"⟩
def dkwJ4_init_0 : List UInt8 := [42, 183, 0, 1, 42, 178, 0, 39, 181, 0, 9, 177]
abbrev dktJ4_init_0 : List UInt8 := dkwJ4_init_0 ++ []
theorem dksJ4_init_0 : cJ4_init.data.toList.drop 0 = dktJ4_init_0 := by decide +kernel
theorem dJ4_init_0 : decode cJ4_init 0 = .ok (.aload_n 0, 1) := dk_42 (dk_at dksJ4_init_0 0 rfl rfl)
theorem dJ4_init_1 : decode cJ4_init 1 = .ok (.invokespecial 1, 3) := dk_183 0 1 (dk_at dksJ4_init_0 1 rfl rfl)
theorem dJ4_init_4 : decode cJ4_init 4 = .ok (.aload_n 0, 1) := dk_42 (dk_at dksJ4_init_0 4 rfl rfl)
theorem dJ4_init_5 : decode cJ4_init 5 = .ok (.getstatic 39, 3) := dk_178 0 39 (dk_at dksJ4_init_0 5 rfl rfl)
theorem dJ4_init_8 : decode cJ4_init 8 = .ok (.putfield 9, 3) := dk_181 0 9 (dk_at dksJ4_init_0 8 rfl rfl)
theorem dJ4_init_11 : decode cJ4_init 11 = .ok (.return_, 1) := dk_177 (dk_at dksJ4_init_0 11 rfl rfl)
abbrev cJ4_size : ByteArray := prog_27_method_8_code
def yJ4_size : MethodName := ⟨RJ4, "size", "()I"⟩
theorem dJ4_size_0 : decode cJ4_size 0 = .ok (.aload_n 0, 1) := by decide +kernel
theorem dJ4_size_1 : decode cJ4_size 1 = .ok (.getfield 48, 3) := by decide +kernel
theorem dJ4_size_4 : decode cJ4_size 4 = .ok (.ireturn, 1) := by decide +kernel
abbrev cJ4_get : ByteArray := prog_27_method_20_code
def yJ4_get : MethodName := ⟨RJ4, "get", "(I)Ljava/lang/Object;"⟩
def dkwJ4_get_0 : List UInt8 := [27, 42, 180, 0, 48, 184, 0, 118, 87, 42, 27, 182, 0, 123, 176]
abbrev dktJ4_get_0 : List UInt8 := dkwJ4_get_0 ++ []
theorem dksJ4_get_0 : cJ4_get.data.toList.drop 0 = dktJ4_get_0 := by decide +kernel
theorem dJ4_get_0 : decode cJ4_get 0 = .ok (.iload_n 1, 1) := dk_27 (dk_at dksJ4_get_0 0 rfl rfl)
theorem dJ4_get_1 : decode cJ4_get 1 = .ok (.aload_n 0, 1) := dk_42 (dk_at dksJ4_get_0 1 rfl rfl)
theorem dJ4_get_2 : decode cJ4_get 2 = .ok (.getfield 48, 3) := dk_180 0 48 (dk_at dksJ4_get_0 2 rfl rfl)
theorem dJ4_get_5 : decode cJ4_get 5 = .ok (.invokestatic 118, 3) := dk_184 0 118 (dk_at dksJ4_get_0 5 rfl rfl)
theorem dJ4_get_8 : decode cJ4_get 8 = .ok (.pop, 1) := dk_87 (dk_at dksJ4_get_0 8 rfl rfl)
theorem dJ4_get_9 : decode cJ4_get 9 = .ok (.aload_n 0, 1) := dk_42 (dk_at dksJ4_get_0 9 rfl rfl)
theorem dJ4_get_10 : decode cJ4_get 10 = .ok (.iload_n 1, 1) := dk_27 (dk_at dksJ4_get_0 10 rfl rfl)
theorem dJ4_get_11 : decode cJ4_get 11 = .ok (.invokevirtual 123, 3) := dk_182 0 123 (dk_at dksJ4_get_0 11 rfl rfl)
theorem dJ4_get_14 : decode cJ4_get 14 = .ok (.areturn, 1) := dk_176 (dk_at dksJ4_get_0 14 rfl rfl)
abbrev cJ4_elementData : ByteArray := prog_27_method_18_code
def yJ4_elementData : MethodName := ⟨RJ4, "elementData", "(I)Ljava/lang/Object;"⟩
def dkwJ4_elementData_0 : List UInt8 := [42, 180, 0, 9, 27, 50, 176]
abbrev dktJ4_elementData_0 : List UInt8 := dkwJ4_elementData_0 ++ []
theorem dksJ4_elementData_0 : cJ4_elementData.data.toList.drop 0 = dktJ4_elementData_0 := by decide +kernel
theorem dJ4_elementData_0 : decode cJ4_elementData 0 = .ok (.aload_n 0, 1) := dk_42 (dk_at dksJ4_elementData_0 0 rfl rfl)
theorem dJ4_elementData_1 : decode cJ4_elementData 1 = .ok (.getfield 9, 3) := dk_180 0 9 (dk_at dksJ4_elementData_0 1 rfl rfl)
theorem dJ4_elementData_4 : decode cJ4_elementData 4 = .ok (.iload_n 1, 1) := dk_27 (dk_at dksJ4_elementData_0 4 rfl rfl)
theorem dJ4_elementData_5 : decode cJ4_elementData 5 = .ok (.aaload, 1) := dk_50 (dk_at dksJ4_elementData_0 5 rfl rfl)
theorem dJ4_elementData_6 : decode cJ4_elementData 6 = .ok (.areturn, 1) := dk_176 (dk_at dksJ4_elementData_0 6 rfl rfl)
abbrev cJ4_add : ByteArray := prog_27_method_25_code
def yJ4_add : MethodName := ⟨RJ4, "add", "(Ljava/lang/Object;)Z"⟩
def dkwJ4_add_1 : List UInt8 := [172]
abbrev dktJ4_add_1 : List UInt8 := dkwJ4_add_1 ++ []
def dkwJ4_add_0 : List UInt8 := [42, 89, 180, 0, 63, 4, 96, 181, 0, 63, 42, 43, 42, 180, 0, 9, 42, 180, 0, 48, 182, 0, 131, 4]
abbrev dktJ4_add_0 : List UInt8 := dkwJ4_add_0 ++ dktJ4_add_1
theorem dksJ4_add_0 : cJ4_add.data.toList.drop 0 = dktJ4_add_0 := by decide +kernel
theorem dksJ4_add_1 : cJ4_add.data.toList.drop 24 = dktJ4_add_1 := dk_seg dksJ4_add_0 24 rfl rfl
theorem dJ4_add_0 : decode cJ4_add 0 = .ok (.aload_n 0, 1) := dk_42 (dk_at dksJ4_add_0 0 rfl rfl)
theorem dJ4_add_1 : decode cJ4_add 1 = .ok (.dup, 1) := dk_89 (dk_at dksJ4_add_0 1 rfl rfl)
theorem dJ4_add_2 : decode cJ4_add 2 = .ok (.getfield 63, 3) := dk_180 0 63 (dk_at dksJ4_add_0 2 rfl rfl)
theorem dJ4_add_5 : decode cJ4_add 5 = .ok (.iconst 1, 1) := dk_4 (dk_at dksJ4_add_0 5 rfl rfl)
theorem dJ4_add_6 : decode cJ4_add 6 = .ok (.iadd, 1) := dk_96 (dk_at dksJ4_add_0 6 rfl rfl)
theorem dJ4_add_7 : decode cJ4_add 7 = .ok (.putfield 63, 3) := dk_181 0 63 (dk_at dksJ4_add_0 7 rfl rfl)
theorem dJ4_add_10 : decode cJ4_add 10 = .ok (.aload_n 0, 1) := dk_42 (dk_at dksJ4_add_0 10 rfl rfl)
theorem dJ4_add_11 : decode cJ4_add 11 = .ok (.aload_n 1, 1) := dk_43 (dk_at dksJ4_add_0 11 rfl rfl)
theorem dJ4_add_12 : decode cJ4_add 12 = .ok (.aload_n 0, 1) := dk_42 (dk_at dksJ4_add_0 12 rfl rfl)
theorem dJ4_add_13 : decode cJ4_add 13 = .ok (.getfield 9, 3) := dk_180 0 9 (dk_at dksJ4_add_0 13 rfl rfl)
theorem dJ4_add_16 : decode cJ4_add 16 = .ok (.aload_n 0, 1) := dk_42 (dk_at dksJ4_add_0 16 rfl rfl)
theorem dJ4_add_17 : decode cJ4_add 17 = .ok (.getfield 48, 3) := dk_180 0 48 (dk_at dksJ4_add_0 17 rfl rfl)
theorem dJ4_add_20 : decode cJ4_add 20 = .ok (.invokevirtual 131, 3) := dk_182 0 131 (dk_at dksJ4_add_0 20 rfl rfl)
theorem dJ4_add_23 : decode cJ4_add 23 = .ok (.iconst 1, 1) := dk_4 (dk_at dksJ4_add_0 23 rfl rfl)
theorem dJ4_add_24 : decode cJ4_add 24 = .ok (.ireturn, 1) := dk_172 (dk_at dksJ4_add_1 0 rfl rfl)
abbrev cJ4_add_2 : ByteArray := prog_27_method_24_code
def yJ4_add_2 : MethodName := ⟨RJ4, "add", "(Ljava/lang/Object;[Ljava/lang/Object;I)V"⟩
def dkwJ4_add_2_0 : List UInt8 := [29, 44, 190, 160, 0, 8, 42, 182, 0, 129, 77, 44, 29, 43, 83, 42, 29, 4, 96, 181, 0, 48, 177]
abbrev dktJ4_add_2_0 : List UInt8 := dkwJ4_add_2_0 ++ []
theorem dksJ4_add_2_0 : cJ4_add_2.data.toList.drop 0 = dktJ4_add_2_0 := by decide +kernel
theorem dJ4_add_2_0 : decode cJ4_add_2 0 = .ok (.iload_n 3, 1) := dk_29 (dk_at dksJ4_add_2_0 0 rfl rfl)
theorem dJ4_add_2_1 : decode cJ4_add_2 1 = .ok (.aload_n 2, 1) := dk_44 (dk_at dksJ4_add_2_0 1 rfl rfl)
theorem dJ4_add_2_2 : decode cJ4_add_2 2 = .ok (.arraylength, 1) := dk_190 (dk_at dksJ4_add_2_0 2 rfl rfl)
theorem dJ4_add_2_3 : decode cJ4_add_2 3 = .ok (.if_icmp .ne 8, 3) := dk_160 0 8 (dk_at dksJ4_add_2_0 3 rfl rfl)
theorem dJ4_add_2_6 : decode cJ4_add_2 6 = .ok (.aload_n 0, 1) := dk_42 (dk_at dksJ4_add_2_0 6 rfl rfl)
theorem dJ4_add_2_7 : decode cJ4_add_2 7 = .ok (.invokevirtual 129, 3) := dk_182 0 129 (dk_at dksJ4_add_2_0 7 rfl rfl)
theorem dJ4_add_2_10 : decode cJ4_add_2 10 = .ok (.astore_n 2, 1) := dk_77 (dk_at dksJ4_add_2_0 10 rfl rfl)
theorem dJ4_add_2_11 : decode cJ4_add_2 11 = .ok (.aload_n 2, 1) := dk_44 (dk_at dksJ4_add_2_0 11 rfl rfl)
theorem dJ4_add_2_12 : decode cJ4_add_2 12 = .ok (.iload_n 3, 1) := dk_29 (dk_at dksJ4_add_2_0 12 rfl rfl)
theorem dJ4_add_2_13 : decode cJ4_add_2 13 = .ok (.aload_n 1, 1) := dk_43 (dk_at dksJ4_add_2_0 13 rfl rfl)
theorem dJ4_add_2_14 : decode cJ4_add_2 14 = .ok (.aastore, 1) := dk_83 (dk_at dksJ4_add_2_0 14 rfl rfl)
theorem dJ4_add_2_15 : decode cJ4_add_2 15 = .ok (.aload_n 0, 1) := dk_42 (dk_at dksJ4_add_2_0 15 rfl rfl)
theorem dJ4_add_2_16 : decode cJ4_add_2 16 = .ok (.iload_n 3, 1) := dk_29 (dk_at dksJ4_add_2_0 16 rfl rfl)
theorem dJ4_add_2_17 : decode cJ4_add_2 17 = .ok (.iconst 1, 1) := dk_4 (dk_at dksJ4_add_2_0 17 rfl rfl)
theorem dJ4_add_2_18 : decode cJ4_add_2 18 = .ok (.iadd, 1) := dk_96 (dk_at dksJ4_add_2_0 18 rfl rfl)
theorem dJ4_add_2_19 : decode cJ4_add_2 19 = .ok (.putfield 48, 3) := dk_181 0 48 (dk_at dksJ4_add_2_0 19 rfl rfl)
theorem dJ4_add_2_22 : decode cJ4_add_2 22 = .ok (.return_, 1) := dk_177 (dk_at dksJ4_add_2_0 22 rfl rfl)
abbrev cJ4_grow : ByteArray := prog_27_method_7_code
def yJ4_grow : MethodName := ⟨RJ4, "grow", "()[Ljava/lang/Object;"⟩
def dkwJ4_grow_0 : List UInt8 := [42, 42, 180, 0, 48, 4, 96, 182, 0, 69, 176]
abbrev dktJ4_grow_0 : List UInt8 := dkwJ4_grow_0 ++ []
theorem dksJ4_grow_0 : cJ4_grow.data.toList.drop 0 = dktJ4_grow_0 := by decide +kernel
theorem dJ4_grow_0 : decode cJ4_grow 0 = .ok (.aload_n 0, 1) := dk_42 (dk_at dksJ4_grow_0 0 rfl rfl)
theorem dJ4_grow_1 : decode cJ4_grow 1 = .ok (.aload_n 0, 1) := dk_42 (dk_at dksJ4_grow_0 1 rfl rfl)
theorem dJ4_grow_2 : decode cJ4_grow 2 = .ok (.getfield 48, 3) := dk_180 0 48 (dk_at dksJ4_grow_0 2 rfl rfl)
theorem dJ4_grow_5 : decode cJ4_grow 5 = .ok (.iconst 1, 1) := dk_4 (dk_at dksJ4_grow_0 5 rfl rfl)
theorem dJ4_grow_6 : decode cJ4_grow 6 = .ok (.iadd, 1) := dk_96 (dk_at dksJ4_grow_0 6 rfl rfl)
theorem dJ4_grow_7 : decode cJ4_grow 7 = .ok (.invokevirtual 69, 3) := dk_182 0 69 (dk_at dksJ4_grow_0 7 rfl rfl)
theorem dJ4_grow_10 : decode cJ4_grow 10 = .ok (.areturn, 1) := dk_176 (dk_at dksJ4_grow_0 10 rfl rfl)
abbrev cJ4_grow_2 : ByteArray := prog_27_method_6_code
def yJ4_grow_2 : MethodName := ⟨RJ4, "grow", "(I)[Ljava/lang/Object;"⟩
def dkwJ4_grow_2_2 : List UInt8 := [27, 184, 0, 79, 189, 0, 7, 90, 181, 0, 9, 176]
abbrev dktJ4_grow_2_2 : List UInt8 := dkwJ4_grow_2_2 ++ []
def dkwJ4_grow_2_1 : List UInt8 := [28, 4, 122, 184, 0, 73, 62, 42, 42, 180, 0, 9, 29, 184, 0, 66, 90, 181, 0, 9, 176, 42, 16, 10]
abbrev dktJ4_grow_2_1 : List UInt8 := dkwJ4_grow_2_1 ++ dktJ4_grow_2_2
def dkwJ4_grow_2_0 : List UInt8 := [42, 180, 0, 9, 190, 61, 28, 157, 0, 13, 42, 180, 0, 9, 178, 0, 39, 165, 0, 28, 28, 27, 28, 100]
abbrev dktJ4_grow_2_0 : List UInt8 := dkwJ4_grow_2_0 ++ dktJ4_grow_2_1
theorem dksJ4_grow_2_0 : cJ4_grow_2.data.toList.drop 0 = dktJ4_grow_2_0 := by decide +kernel
theorem dksJ4_grow_2_1 : cJ4_grow_2.data.toList.drop 24 = dktJ4_grow_2_1 := dk_seg dksJ4_grow_2_0 24 rfl rfl
theorem dksJ4_grow_2_2 : cJ4_grow_2.data.toList.drop 48 = dktJ4_grow_2_2 := dk_seg dksJ4_grow_2_1 24 rfl rfl
theorem dJ4_grow_2_0 : decode cJ4_grow_2 0 = .ok (.aload_n 0, 1) := dk_42 (dk_at dksJ4_grow_2_0 0 rfl rfl)
theorem dJ4_grow_2_1 : decode cJ4_grow_2 1 = .ok (.getfield 9, 3) := dk_180 0 9 (dk_at dksJ4_grow_2_0 1 rfl rfl)
theorem dJ4_grow_2_4 : decode cJ4_grow_2 4 = .ok (.arraylength, 1) := dk_190 (dk_at dksJ4_grow_2_0 4 rfl rfl)
theorem dJ4_grow_2_5 : decode cJ4_grow_2 5 = .ok (.istore_n 2, 1) := dk_61 (dk_at dksJ4_grow_2_0 5 rfl rfl)
theorem dJ4_grow_2_6 : decode cJ4_grow_2 6 = .ok (.iload_n 2, 1) := dk_28 (dk_at dksJ4_grow_2_0 6 rfl rfl)
theorem dJ4_grow_2_7 : decode cJ4_grow_2 7 = .ok (.ifCond .gt 13, 3) := dk_157 0 13 (dk_at dksJ4_grow_2_0 7 rfl rfl)
theorem dJ4_grow_2_10 : decode cJ4_grow_2 10 = .ok (.aload_n 0, 1) := dk_42 (dk_at dksJ4_grow_2_0 10 rfl rfl)
theorem dJ4_grow_2_11 : decode cJ4_grow_2 11 = .ok (.getfield 9, 3) := dk_180 0 9 (dk_at dksJ4_grow_2_0 11 rfl rfl)
theorem dJ4_grow_2_14 : decode cJ4_grow_2 14 = .ok (.getstatic 39, 3) := dk_178 0 39 (dk_at dksJ4_grow_2_0 14 rfl rfl)
theorem dJ4_grow_2_17 : decode cJ4_grow_2 17 = .ok (.if_acmp .eq 28, 3) := dk_165 0 28 (dk_at dksJ4_grow_2_0 17 rfl rfl)
theorem dJ4_grow_2_20 : decode cJ4_grow_2 20 = .ok (.iload_n 2, 1) := dk_28 (dk_at dksJ4_grow_2_0 20 rfl rfl)
theorem dJ4_grow_2_21 : decode cJ4_grow_2 21 = .ok (.iload_n 1, 1) := dk_27 (dk_at dksJ4_grow_2_0 21 rfl rfl)
theorem dJ4_grow_2_22 : decode cJ4_grow_2 22 = .ok (.iload_n 2, 1) := dk_28 (dk_at dksJ4_grow_2_0 22 rfl rfl)
theorem dJ4_grow_2_23 : decode cJ4_grow_2 23 = .ok (.isub, 1) := dk_100 (dk_at dksJ4_grow_2_0 23 rfl rfl)
theorem dJ4_grow_2_24 : decode cJ4_grow_2 24 = .ok (.iload_n 2, 1) := dk_28 (dk_at dksJ4_grow_2_1 0 rfl rfl)
theorem dJ4_grow_2_25 : decode cJ4_grow_2 25 = .ok (.iconst 1, 1) := dk_4 (dk_at dksJ4_grow_2_1 1 rfl rfl)
theorem dJ4_grow_2_26 : decode cJ4_grow_2 26 = .ok (.ishr, 1) := dk_122 (dk_at dksJ4_grow_2_1 2 rfl rfl)
theorem dJ4_grow_2_27 : decode cJ4_grow_2 27 = .ok (.invokestatic 73, 3) := dk_184 0 73 (dk_at dksJ4_grow_2_1 3 rfl rfl)
theorem dJ4_grow_2_30 : decode cJ4_grow_2 30 = .ok (.istore_n 3, 1) := dk_62 (dk_at dksJ4_grow_2_1 6 rfl rfl)
theorem dJ4_grow_2_31 : decode cJ4_grow_2 31 = .ok (.aload_n 0, 1) := dk_42 (dk_at dksJ4_grow_2_1 7 rfl rfl)
theorem dJ4_grow_2_32 : decode cJ4_grow_2 32 = .ok (.aload_n 0, 1) := dk_42 (dk_at dksJ4_grow_2_1 8 rfl rfl)
theorem dJ4_grow_2_33 : decode cJ4_grow_2 33 = .ok (.getfield 9, 3) := dk_180 0 9 (dk_at dksJ4_grow_2_1 9 rfl rfl)
theorem dJ4_grow_2_36 : decode cJ4_grow_2 36 = .ok (.iload_n 3, 1) := dk_29 (dk_at dksJ4_grow_2_1 12 rfl rfl)
theorem dJ4_grow_2_37 : decode cJ4_grow_2 37 = .ok (.invokestatic 66, 3) := dk_184 0 66 (dk_at dksJ4_grow_2_1 13 rfl rfl)
theorem dJ4_grow_2_40 : decode cJ4_grow_2 40 = .ok (.dup_x1, 1) := dk_90 (dk_at dksJ4_grow_2_1 16 rfl rfl)
theorem dJ4_grow_2_41 : decode cJ4_grow_2 41 = .ok (.putfield 9, 3) := dk_181 0 9 (dk_at dksJ4_grow_2_1 17 rfl rfl)
theorem dJ4_grow_2_44 : decode cJ4_grow_2 44 = .ok (.areturn, 1) := dk_176 (dk_at dksJ4_grow_2_1 20 rfl rfl)
theorem dJ4_grow_2_45 : decode cJ4_grow_2 45 = .ok (.aload_n 0, 1) := dk_42 (dk_at dksJ4_grow_2_1 21 rfl rfl)
theorem dJ4_grow_2_46 : decode cJ4_grow_2 46 = .ok (.bipush 10, 2) := dk_16 10 (dk_at dksJ4_grow_2_1 22 rfl rfl)
theorem dJ4_grow_2_48 : decode cJ4_grow_2 48 = .ok (.iload_n 1, 1) := dk_27 (dk_at dksJ4_grow_2_2 0 rfl rfl)
theorem dJ4_grow_2_49 : decode cJ4_grow_2 49 = .ok (.invokestatic 79, 3) := dk_184 0 79 (dk_at dksJ4_grow_2_2 1 rfl rfl)
theorem dJ4_grow_2_52 : decode cJ4_grow_2 52 = .ok (.anewarray 7, 3) := dk_189 0 7 (dk_at dksJ4_grow_2_2 4 rfl rfl)
theorem dJ4_grow_2_55 : decode cJ4_grow_2 55 = .ok (.dup_x1, 1) := dk_90 (dk_at dksJ4_grow_2_2 7 rfl rfl)
theorem dJ4_grow_2_56 : decode cJ4_grow_2 56 = .ok (.putfield 9, 3) := dk_181 0 9 (dk_at dksJ4_grow_2_2 8 rfl rfl)
theorem dJ4_grow_2_59 : decode cJ4_grow_2 59 = .ok (.areturn, 1) := dk_176 (dk_at dksJ4_grow_2_2 11 rfl rfl)
theorem q77 : (Jvm.Cond.initialized "java/util/ArrayList") ∈ lw_all := lw_g (lw_at lw_m1 8 rfl) rfl
theorem q175 : (Jvm.Cond.instantiable "java/util/ArrayList" (3 : Nat)) ∈ lw_all := lw_g (lw_at lw_m1 106 rfl) rfl
theorem q177 : (Jvm.Cond.instanceMethod ({ cls := "java/util/ArrayList", name := "<init>", desc := "()V" } : Jvm.MethodName)) ∈ lw_all := lw_g (lw_at lw_m1 108 rfl) rfl
theorem q178 : (Jvm.Cond.code ({ cls := "java/util/ArrayList", name := "<init>", desc := "()V" } : Jvm.MethodName) prog_27_method_2_code (1 : Nat) (Option.none : Option Jvm.ClassFile.FieldType)) ∈ lw_all := lw_g (lw_at lw_m1 109 rfl) rfl
theorem q179 : (Jvm.Cond.methodLink "java/util/ArrayList" (1 : Nat) ({ cls := "java/util/AbstractList", name := "<init>", desc := "()V" } : Jvm.MethodName)) ∈ lw_all := lw_g (lw_at lw_m1 110 rfl) rfl
theorem q186 : (Jvm.Cond.fieldLink "java/util/ArrayList" (39 : Nat) "java/util/ArrayList" "DEFAULTCAPACITY_EMPTY_ELEMENTDATA" "[Ljava/lang/Object;") ∈ lw_all := lw_g (lw_at lw_m1 117 rfl) rfl
theorem q187 : (Jvm.Cond.laysStatic "java/util/ArrayList" "DEFAULTCAPACITY_EMPTY_ELEMENTDATA" "[Ljava/lang/Object;") ∈ lw_tbl := lw_at lw_m1 118 rfl
theorem q188 : (Jvm.Cond.fieldLink "java/util/ArrayList" (9 : Nat) "java/util/ArrayList" "elementData" "[Ljava/lang/Object;") ∈ lw_all := lw_g (lw_at lw_m1 119 rfl) rfl
theorem q189 : (Jvm.Cond.fieldLink "java/util/ArrayList" (48 : Nat) "java/util/ArrayList" "size" "I") ∈ lw_all := lw_g (lw_at lw_m1 120 rfl) rfl
theorem q191 : (Jvm.Cond.fieldLink "java/util/ArrayList" (63 : Nat) "java/util/ArrayList" "modCount" "I") ∈ lw_all := lw_g (lw_at lw_m1 122 rfl) rfl
theorem q192 : (Jvm.Cond.sameField "java/util/ArrayList" "java/util/AbstractList" "modCount" "I") ∈ lw_all := lw_g (lw_at lw_m1 123 rfl) rfl
theorem q193 : (Jvm.Cond.lays "java/util/ArrayList" "java/util/ArrayList" "elementData" "[Ljava/lang/Object;") ∈ lw_all := lw_g (lw_at lw_m1 124 rfl) rfl
theorem q194 : (Jvm.Cond.soleField "java/util/ArrayList" "elementData") ∈ lw_all := lw_g (lw_at lw_m1 125 rfl) rfl
theorem q195 : (Jvm.Cond.lays "java/util/ArrayList" "java/util/ArrayList" "size" "I") ∈ lw_all := lw_g (lw_at lw_m1 126 rfl) rfl
theorem q196 : (Jvm.Cond.soleField "java/util/ArrayList" "size") ∈ lw_all := lw_g (lw_at lw_m1 127 rfl) rfl
theorem q197 : (Jvm.Cond.lays "java/util/ArrayList" "java/util/AbstractList" "modCount" "I") ∈ lw_all := lw_g (lw_at lw_m1 128 rfl) rfl
theorem q199 : (Jvm.Cond.superclass "java/util/ArrayList" "java/util/AbstractList") ∈ lw_all := lw_g (lw_at lw_m1 130 rfl) rfl
theorem q319 : (Jvm.Cond.instanceMethod ({ cls := "java/util/ArrayList", name := "size", desc := "()I" } : Jvm.MethodName)) ∈ lw_all := lw_g (lw_at lw_m2 10 rfl) rfl
theorem q320 : (Jvm.Cond.selects "java/util/ArrayList" ({ cls := "java/util/ArrayList", name := "size", desc := "()I" } : Jvm.MethodName) ({ cls := "java/util/ArrayList", name := "size", desc := "()I" } : Jvm.MethodName)) ∈ lw_all := lw_g (lw_at lw_m2 11 rfl) rfl
theorem q321 : (Jvm.Cond.code ({ cls := "java/util/ArrayList", name := "size", desc := "()I" } : Jvm.MethodName) prog_27_method_8_code (1 : Nat) (Option.some Jvm.ClassFile.FieldType.int)) ∈ lw_all := lw_g (lw_at lw_m2 12 rfl) rfl
theorem q613 : (Jvm.Cond.instanceMethod ({ cls := "java/util/ArrayList", name := "get", desc := "(I)Ljava/lang/Object;" } : Jvm.MethodName)) ∈ lw_all := lw_g (lw_at lw_m3 64 rfl) rfl
theorem q614 : (Jvm.Cond.selects "java/util/ArrayList" ({ cls := "java/util/ArrayList", name := "get", desc := "(I)Ljava/lang/Object;" } : Jvm.MethodName) ({ cls := "java/util/ArrayList", name := "get", desc := "(I)Ljava/lang/Object;" } : Jvm.MethodName)) ∈ lw_all := lw_g (lw_at lw_m3 65 rfl) rfl
theorem q615 : (Jvm.Cond.code ({ cls := "java/util/ArrayList", name := "get", desc := "(I)Ljava/lang/Object;" } : Jvm.MethodName) prog_27_method_20_code (2 : Nat) (Option.some (Jvm.ClassFile.FieldType.object "java/lang/Object"))) ∈ lw_all := lw_g (lw_at lw_m3 66 rfl) rfl
theorem q616 : (Jvm.Cond.methodLink "java/util/ArrayList" (118 : Nat) ({ cls := "java/util/Objects", name := "checkIndex", desc := "(II)I" } : Jvm.MethodName)) ∈ lw_all := lw_g (lw_at lw_m3 67 rfl) rfl
theorem q620 : (Jvm.Cond.methodLink "java/util/ArrayList" (123 : Nat) ({ cls := "java/util/ArrayList", name := "elementData", desc := "(I)Ljava/lang/Object;" } : Jvm.MethodName)) ∈ lw_all := lw_g (lw_at lw_m3 71 rfl) rfl
theorem q621 : (Jvm.Cond.instanceMethod ({ cls := "java/util/ArrayList", name := "elementData", desc := "(I)Ljava/lang/Object;" } : Jvm.MethodName)) ∈ lw_all := lw_g (lw_at lw_m3 72 rfl) rfl
theorem q622 : (Jvm.Cond.selects "java/util/ArrayList" ({ cls := "java/util/ArrayList", name := "elementData", desc := "(I)Ljava/lang/Object;" } : Jvm.MethodName) ({ cls := "java/util/ArrayList", name := "elementData", desc := "(I)Ljava/lang/Object;" } : Jvm.MethodName)) ∈ lw_all := lw_g (lw_at lw_m3 73 rfl) rfl
theorem q623 : (Jvm.Cond.code ({ cls := "java/util/ArrayList", name := "elementData", desc := "(I)Ljava/lang/Object;" } : Jvm.MethodName) prog_27_method_18_code (2 : Nat) (Option.some (Jvm.ClassFile.FieldType.object "java/lang/Object"))) ∈ lw_all := lw_g (lw_at lw_m3 74 rfl) rfl
theorem q670 : (Jvm.Cond.instanceMethod ({ cls := "java/util/ArrayList", name := "add", desc := "(Ljava/lang/Object;)Z" } : Jvm.MethodName)) ∈ lw_all := lw_g (lw_at lw_m3 121 rfl) rfl
theorem q671 : (Jvm.Cond.selects "java/util/ArrayList" ({ cls := "java/util/ArrayList", name := "add", desc := "(Ljava/lang/Object;)Z" } : Jvm.MethodName) ({ cls := "java/util/ArrayList", name := "add", desc := "(Ljava/lang/Object;)Z" } : Jvm.MethodName)) ∈ lw_all := lw_g (lw_at lw_m3 122 rfl) rfl
theorem q672 : (Jvm.Cond.code ({ cls := "java/util/ArrayList", name := "add", desc := "(Ljava/lang/Object;)Z" } : Jvm.MethodName) prog_27_method_25_code (2 : Nat) (Option.some Jvm.ClassFile.FieldType.boolean)) ∈ lw_all := lw_g (lw_at lw_m3 123 rfl) rfl
theorem q673 : (Jvm.Cond.methodLink "java/util/ArrayList" (131 : Nat) ({ cls := "java/util/ArrayList", name := "add", desc := "(Ljava/lang/Object;[Ljava/lang/Object;I)V" } : Jvm.MethodName)) ∈ lw_all := lw_g (lw_at lw_m3 124 rfl) rfl
theorem q674 : (Jvm.Cond.privateMethod ({ cls := "java/util/ArrayList", name := "add", desc := "(Ljava/lang/Object;[Ljava/lang/Object;I)V" } : Jvm.MethodName)) ∈ lw_tbl := lw_at lw_m3 125 rfl
theorem q675 : (Jvm.Cond.instanceMethod ({ cls := "java/util/ArrayList", name := "add", desc := "(Ljava/lang/Object;[Ljava/lang/Object;I)V" } : Jvm.MethodName)) ∈ lw_all := lw_g (lw_at lw_m3 126 rfl) rfl
theorem q676 : (Jvm.Cond.code ({ cls := "java/util/ArrayList", name := "add", desc := "(Ljava/lang/Object;[Ljava/lang/Object;I)V" } : Jvm.MethodName) prog_27_method_24_code (4 : Nat) (Option.none : Option Jvm.ClassFile.FieldType)) ∈ lw_all := lw_g (lw_at lw_m3 127 rfl) rfl
theorem q677 : (Jvm.Cond.methodLink "java/util/ArrayList" (129 : Nat) ({ cls := "java/util/ArrayList", name := "grow", desc := "()[Ljava/lang/Object;" } : Jvm.MethodName)) ∈ lw_all := lw_g (lw_at lw_m3 128 rfl) rfl
theorem q678 : (Jvm.Cond.privateMethod ({ cls := "java/util/ArrayList", name := "grow", desc := "()[Ljava/lang/Object;" } : Jvm.MethodName)) ∈ lw_tbl := lw_at lw_m3 129 rfl
theorem q679 : (Jvm.Cond.instanceMethod ({ cls := "java/util/ArrayList", name := "grow", desc := "()[Ljava/lang/Object;" } : Jvm.MethodName)) ∈ lw_all := lw_g (lw_at lw_m3 130 rfl) rfl
theorem q680 : (Jvm.Cond.code ({ cls := "java/util/ArrayList", name := "grow", desc := "()[Ljava/lang/Object;" } : Jvm.MethodName) prog_27_method_7_code (1 : Nat) (Option.some (Jvm.ClassFile.FieldType.array (Jvm.ClassFile.FieldType.object "java/lang/Object")))) ∈ lw_all := lw_g (lw_at lw_m3 131 rfl) rfl
theorem q681 : (Jvm.Cond.methodLink "java/util/ArrayList" (69 : Nat) ({ cls := "java/util/ArrayList", name := "grow", desc := "(I)[Ljava/lang/Object;" } : Jvm.MethodName)) ∈ lw_all := lw_g (lw_at lw_m3 132 rfl) rfl
theorem q682 : (Jvm.Cond.privateMethod ({ cls := "java/util/ArrayList", name := "grow", desc := "(I)[Ljava/lang/Object;" } : Jvm.MethodName)) ∈ lw_tbl := lw_at lw_m3 133 rfl
theorem q683 : (Jvm.Cond.instanceMethod ({ cls := "java/util/ArrayList", name := "grow", desc := "(I)[Ljava/lang/Object;" } : Jvm.MethodName)) ∈ lw_all := lw_g (lw_at lw_m3 134 rfl) rfl
theorem q684 : (Jvm.Cond.code ({ cls := "java/util/ArrayList", name := "grow", desc := "(I)[Ljava/lang/Object;" } : Jvm.MethodName) prog_27_method_6_code (4 : Nat) (Option.some (Jvm.ClassFile.FieldType.array (Jvm.ClassFile.FieldType.object "java/lang/Object")))) ∈ lw_all := lw_g (lw_at lw_m3 135 rfl) rfl
theorem q685 : (Jvm.Cond.methodLink "java/util/ArrayList" (73 : Nat) ({ cls := "jdk/internal/util/ArraysSupport", name := "newLength", desc := "(III)I" } : Jvm.MethodName)) ∈ lw_all := lw_g (lw_at lw_m3 136 rfl) rfl
theorem q695 : (Jvm.Cond.methodLink "java/util/ArrayList" (66 : Nat) ({ cls := "java/util/Arrays", name := "copyOf", desc := "([Ljava/lang/Object;I)[Ljava/lang/Object;" } : Jvm.MethodName)) ∈ lw_all := lw_g (lw_at lw_m3 146 rfl) rfl
theorem q708 : (Jvm.Cond.selects "java/util/ArrayList" ({ cls := "java/lang/Object", name := "getClass", desc := "()Ljava/lang/Class;" } : Jvm.MethodName) ({ cls := "java/lang/Object", name := "getClass", desc := "()Ljava/lang/Class;" } : Jvm.MethodName)) ∈ lw_all := lw_g (lw_at lw_m3 159 rfl) rfl
theorem q722 : (Jvm.Cond.methodLink "java/util/ArrayList" (79 : Nat) ({ cls := "java/lang/Math", name := "max", desc := "(II)I" } : Jvm.MethodName)) ∈ lw_all := lw_g (lw_at lw_m3 173 rfl) rfl
theorem q723 : (Jvm.Cond.classLink "java/util/ArrayList" (7 : Nat) "java/lang/Object") ∈ lw_all := lw_g (lw_at lw_m3 174 rfl) rfl
theorem q1595 : (Jvm.Cond.castable "java/util/ArrayList" "java/lang/Object") ∈ lw_tbl := lw_at lw_m7 86 rfl
theorem in_J4 : ∀ w ∈ wsJ40, w ∈ lw_all := lw_in wsJ40 [197, 193, 195] (by decide +kernel) (by decide +kernel)
/-! java/lang/Math -/
set_option maxRecDepth 100000
def RJ5 : String := "java/lang/Math"
abbrev cJ5_max : ByteArray := prog_17_method_65_code
def yJ5_max : MethodName := ⟨RJ5, "max", "(II)I"⟩
def dkwJ5_max_0 : List UInt8 := [26, 27, 161, 0, 7, 26, 167, 0, 4, 27, 172]
abbrev dktJ5_max_0 : List UInt8 := dkwJ5_max_0 ++ []
theorem dksJ5_max_0 : cJ5_max.data.toList.drop 0 = dktJ5_max_0 := by decide +kernel
theorem dJ5_max_0 : decode cJ5_max 0 = .ok (.iload_n 0, 1) := dk_26 (dk_at dksJ5_max_0 0 rfl rfl)
theorem dJ5_max_1 : decode cJ5_max 1 = .ok (.iload_n 1, 1) := dk_27 (dk_at dksJ5_max_0 1 rfl rfl)
theorem dJ5_max_2 : decode cJ5_max 2 = .ok (.if_icmp .lt 7, 3) := dk_161 0 7 (dk_at dksJ5_max_0 2 rfl rfl)
theorem dJ5_max_5 : decode cJ5_max 5 = .ok (.iload_n 0, 1) := dk_26 (dk_at dksJ5_max_0 5 rfl rfl)
theorem dJ5_max_6 : decode cJ5_max 6 = .ok (.goto 4, 3) := dk_167 0 4 (dk_at dksJ5_max_0 6 rfl rfl)
theorem dJ5_max_9 : decode cJ5_max 9 = .ok (.iload_n 1, 1) := dk_27 (dk_at dksJ5_max_0 9 rfl rfl)
theorem dJ5_max_10 : decode cJ5_max 10 = .ok (.ireturn, 1) := dk_172 (dk_at dksJ5_max_0 10 rfl rfl)
abbrev cJ5_min : ByteArray := prog_17_method_69_code
def yJ5_min : MethodName := ⟨RJ5, "min", "(II)I"⟩
def dkwJ5_min_0 : List UInt8 := [26, 27, 163, 0, 7, 26, 167, 0, 4, 27, 172]
abbrev dktJ5_min_0 : List UInt8 := dkwJ5_min_0 ++ []
theorem dksJ5_min_0 : cJ5_min.data.toList.drop 0 = dktJ5_min_0 := by decide +kernel
theorem dJ5_min_0 : decode cJ5_min 0 = .ok (.iload_n 0, 1) := dk_26 (dk_at dksJ5_min_0 0 rfl rfl)
theorem dJ5_min_1 : decode cJ5_min 1 = .ok (.iload_n 1, 1) := dk_27 (dk_at dksJ5_min_0 1 rfl rfl)
theorem dJ5_min_2 : decode cJ5_min 2 = .ok (.if_icmp .gt 7, 3) := dk_163 0 7 (dk_at dksJ5_min_0 2 rfl rfl)
theorem dJ5_min_5 : decode cJ5_min 5 = .ok (.iload_n 0, 1) := dk_26 (dk_at dksJ5_min_0 5 rfl rfl)
theorem dJ5_min_6 : decode cJ5_min 6 = .ok (.goto 4, 3) := dk_167 0 4 (dk_at dksJ5_min_0 6 rfl rfl)
theorem dJ5_min_9 : decode cJ5_min 9 = .ok (.iload_n 1, 1) := dk_27 (dk_at dksJ5_min_0 9 rfl rfl)
theorem dJ5_min_10 : decode cJ5_min 10 = .ok (.ireturn, 1) := dk_172 (dk_at dksJ5_min_0 10 rfl rfl)
abbrev cJ5_abs : ByteArray := prog_17_method_61_code
def yJ5_abs : MethodName := ⟨RJ5, "abs", "(J)J"⟩
def dkwJ5_abs_0 : List UInt8 := [30, 9, 148, 156, 0, 8, 30, 117, 167, 0, 4, 30, 173]
abbrev dktJ5_abs_0 : List UInt8 := dkwJ5_abs_0 ++ []
theorem dksJ5_abs_0 : cJ5_abs.data.toList.drop 0 = dktJ5_abs_0 := by decide +kernel
theorem dJ5_abs_0 : decode cJ5_abs 0 = .ok (.lload_n 0, 1) := dk_30 (dk_at dksJ5_abs_0 0 rfl rfl)
theorem dJ5_abs_1 : decode cJ5_abs 1 = .ok (.lconst 0, 1) := dk_9 (dk_at dksJ5_abs_0 1 rfl rfl)
theorem dJ5_abs_2 : decode cJ5_abs 2 = .ok (.lcmp, 1) := dk_148 (dk_at dksJ5_abs_0 2 rfl rfl)
theorem dJ5_abs_3 : decode cJ5_abs 3 = .ok (.ifCond .ge 8, 3) := dk_156 0 8 (dk_at dksJ5_abs_0 3 rfl rfl)
theorem dJ5_abs_6 : decode cJ5_abs 6 = .ok (.lload_n 0, 1) := dk_30 (dk_at dksJ5_abs_0 6 rfl rfl)
theorem dJ5_abs_7 : decode cJ5_abs 7 = .ok (.lneg, 1) := dk_117 (dk_at dksJ5_abs_0 7 rfl rfl)
theorem dJ5_abs_8 : decode cJ5_abs 8 = .ok (.goto 4, 3) := dk_167 0 4 (dk_at dksJ5_abs_0 8 rfl rfl)
theorem dJ5_abs_11 : decode cJ5_abs 11 = .ok (.lload_n 0, 1) := dk_30 (dk_at dksJ5_abs_0 11 rfl rfl)
theorem dJ5_abs_12 : decode cJ5_abs 12 = .ok (.lreturn, 1) := dk_173 (dk_at dksJ5_abs_0 12 rfl rfl)
theorem q80 : (Jvm.Cond.initialized "java/lang/Math") ∈ lw_all := lw_g (lw_at lw_m1 11 rfl) rfl
theorem q689 : (Jvm.Cond.static ({ cls := "java/lang/Math", name := "max", desc := "(II)I" } : Jvm.MethodName)) ∈ lw_all := lw_g (lw_at lw_m3 140 rfl) rfl
theorem q690 : (Jvm.Cond.code ({ cls := "java/lang/Math", name := "max", desc := "(II)I" } : Jvm.MethodName) prog_17_method_65_code (2 : Nat) (Option.some Jvm.ClassFile.FieldType.int)) ∈ lw_all := lw_g (lw_at lw_m3 141 rfl) rfl
theorem q717 : (Jvm.Cond.static ({ cls := "java/lang/Math", name := "min", desc := "(II)I" } : Jvm.MethodName)) ∈ lw_all := lw_g (lw_at lw_m3 168 rfl) rfl
theorem q718 : (Jvm.Cond.code ({ cls := "java/lang/Math", name := "min", desc := "(II)I" } : Jvm.MethodName) prog_17_method_69_code (2 : Nat) (Option.some Jvm.ClassFile.FieldType.int)) ∈ lw_all := lw_g (lw_at lw_m3 169 rfl) rfl
theorem q844 : (Jvm.Cond.static ({ cls := "java/lang/Math", name := "abs", desc := "(J)J" } : Jvm.MethodName)) ∈ lw_all := lw_g (lw_at lw_m4 55 rfl) rfl
theorem q845 : (Jvm.Cond.code ({ cls := "java/lang/Math", name := "abs", desc := "(J)J" } : Jvm.MethodName) prog_17_method_61_code (2 : Nat) (Option.some Jvm.ClassFile.FieldType.long)) ∈ lw_all := lw_g (lw_at lw_m4 56 rfl) rfl
/-! java/lang/String -/
set_option maxRecDepth 100000
def RJ6 : String := "java/lang/String"
abbrev cJ6_length : ByteArray := prog_18_method_54_code
def yJ6_length : MethodName := ⟨RJ6, "length", "()I"⟩
def dkwJ6_length_0 : List UInt8 := [42, 180, 0, 9, 190, 42, 182, 1, 79, 122, 172]
abbrev dktJ6_length_0 : List UInt8 := dkwJ6_length_0 ++ []
theorem dksJ6_length_0 : cJ6_length.data.toList.drop 0 = dktJ6_length_0 := by decide +kernel
theorem dJ6_length_0 : decode cJ6_length 0 = .ok (.aload_n 0, 1) := dk_42 (dk_at dksJ6_length_0 0 rfl rfl)
theorem dJ6_length_1 : decode cJ6_length 1 = .ok (.getfield 9, 3) := dk_180 0 9 (dk_at dksJ6_length_0 1 rfl rfl)
theorem dJ6_length_4 : decode cJ6_length 4 = .ok (.arraylength, 1) := dk_190 (dk_at dksJ6_length_0 4 rfl rfl)
theorem dJ6_length_5 : decode cJ6_length 5 = .ok (.aload_n 0, 1) := dk_42 (dk_at dksJ6_length_0 5 rfl rfl)
theorem dJ6_length_6 : decode cJ6_length 6 = .ok (.invokevirtual 335, 3) := dk_182 1 79 (dk_at dksJ6_length_0 6 rfl rfl)
theorem dJ6_length_9 : decode cJ6_length 9 = .ok (.ishr, 1) := dk_122 (dk_at dksJ6_length_0 9 rfl rfl)
theorem dJ6_length_10 : decode cJ6_length 10 = .ok (.ireturn, 1) := dk_172 (dk_at dksJ6_length_0 10 rfl rfl)
abbrev cJ6_coder : ByteArray := prog_18_method_152_code
def yJ6_coder : MethodName := ⟨RJ6, "coder", "()B"⟩
def dkwJ6_coder_0 : List UInt8 := [178, 0, 38, 153, 0, 10, 42, 180, 0, 15, 167, 0, 4, 4, 172]
abbrev dktJ6_coder_0 : List UInt8 := dkwJ6_coder_0 ++ []
theorem dksJ6_coder_0 : cJ6_coder.data.toList.drop 0 = dktJ6_coder_0 := by decide +kernel
theorem dJ6_coder_0 : decode cJ6_coder 0 = .ok (.getstatic 38, 3) := dk_178 0 38 (dk_at dksJ6_coder_0 0 rfl rfl)
theorem dJ6_coder_3 : decode cJ6_coder 3 = .ok (.ifCond .eq 10, 3) := dk_153 0 10 (dk_at dksJ6_coder_0 3 rfl rfl)
theorem dJ6_coder_6 : decode cJ6_coder 6 = .ok (.aload_n 0, 1) := dk_42 (dk_at dksJ6_coder_0 6 rfl rfl)
theorem dJ6_coder_7 : decode cJ6_coder 7 = .ok (.getfield 15, 3) := dk_180 0 15 (dk_at dksJ6_coder_0 7 rfl rfl)
theorem dJ6_coder_10 : decode cJ6_coder 10 = .ok (.goto 4, 3) := dk_167 0 4 (dk_at dksJ6_coder_0 10 rfl rfl)
theorem dJ6_coder_13 : decode cJ6_coder 13 = .ok (.iconst 1, 1) := dk_4 (dk_at dksJ6_coder_0 13 rfl rfl)
theorem dJ6_coder_14 : decode cJ6_coder 14 = .ok (.ireturn, 1) := dk_172 (dk_at dksJ6_coder_0 14 rfl rfl)
abbrev cJ6_charAt : ByteArray := prog_18_method_56_code
def yJ6_charAt : MethodName := ⟨RJ6, "charAt", "(I)C"⟩
def dkwJ6_charAt_1 : List UInt8 := [172]
abbrev dktJ6_charAt_1 : List UInt8 := dkwJ6_charAt_1 ++ []
def dkwJ6_charAt_0 : List UInt8 := [42, 182, 1, 236, 153, 0, 12, 42, 180, 0, 9, 27, 184, 1, 239, 172, 42, 180, 0, 9, 27, 184, 1, 242]
abbrev dktJ6_charAt_0 : List UInt8 := dkwJ6_charAt_0 ++ dktJ6_charAt_1
theorem dksJ6_charAt_0 : cJ6_charAt.data.toList.drop 0 = dktJ6_charAt_0 := by decide +kernel
theorem dksJ6_charAt_1 : cJ6_charAt.data.toList.drop 24 = dktJ6_charAt_1 := dk_seg dksJ6_charAt_0 24 rfl rfl
theorem dJ6_charAt_0 : decode cJ6_charAt 0 = .ok (.aload_n 0, 1) := dk_42 (dk_at dksJ6_charAt_0 0 rfl rfl)
theorem dJ6_charAt_1 : decode cJ6_charAt 1 = .ok (.invokevirtual 492, 3) := dk_182 1 236 (dk_at dksJ6_charAt_0 1 rfl rfl)
theorem dJ6_charAt_4 : decode cJ6_charAt 4 = .ok (.ifCond .eq 12, 3) := dk_153 0 12 (dk_at dksJ6_charAt_0 4 rfl rfl)
theorem dJ6_charAt_7 : decode cJ6_charAt 7 = .ok (.aload_n 0, 1) := dk_42 (dk_at dksJ6_charAt_0 7 rfl rfl)
theorem dJ6_charAt_8 : decode cJ6_charAt 8 = .ok (.getfield 9, 3) := dk_180 0 9 (dk_at dksJ6_charAt_0 8 rfl rfl)
theorem dJ6_charAt_11 : decode cJ6_charAt 11 = .ok (.iload_n 1, 1) := dk_27 (dk_at dksJ6_charAt_0 11 rfl rfl)
theorem dJ6_charAt_12 : decode cJ6_charAt 12 = .ok (.invokestatic 495, 3) := dk_184 1 239 (dk_at dksJ6_charAt_0 12 rfl rfl)
theorem dJ6_charAt_15 : decode cJ6_charAt 15 = .ok (.ireturn, 1) := dk_172 (dk_at dksJ6_charAt_0 15 rfl rfl)
theorem dJ6_charAt_16 : decode cJ6_charAt 16 = .ok (.aload_n 0, 1) := dk_42 (dk_at dksJ6_charAt_0 16 rfl rfl)
theorem dJ6_charAt_17 : decode cJ6_charAt 17 = .ok (.getfield 9, 3) := dk_180 0 9 (dk_at dksJ6_charAt_0 17 rfl rfl)
theorem dJ6_charAt_20 : decode cJ6_charAt 20 = .ok (.iload_n 1, 1) := dk_27 (dk_at dksJ6_charAt_0 20 rfl rfl)
theorem dJ6_charAt_21 : decode cJ6_charAt 21 = .ok (.invokestatic 498, 3) := dk_184 1 242 (dk_at dksJ6_charAt_0 21 rfl rfl)
theorem dJ6_charAt_24 : decode cJ6_charAt 24 = .ok (.ireturn, 1) := dk_172 (dk_at dksJ6_charAt_1 0 rfl rfl)
abbrev cJ6_isLatin1 : ByteArray := prog_18_method_154_code
def yJ6_isLatin1 : MethodName := ⟨RJ6, "isLatin1", "()Z"⟩
def dkwJ6_isLatin1_0 : List UInt8 := [178, 0, 38, 153, 0, 14, 42, 180, 0, 15, 154, 0, 7, 4, 167, 0, 4, 3, 172]
abbrev dktJ6_isLatin1_0 : List UInt8 := dkwJ6_isLatin1_0 ++ []
theorem dksJ6_isLatin1_0 : cJ6_isLatin1.data.toList.drop 0 = dktJ6_isLatin1_0 := by decide +kernel
theorem dJ6_isLatin1_0 : decode cJ6_isLatin1 0 = .ok (.getstatic 38, 3) := dk_178 0 38 (dk_at dksJ6_isLatin1_0 0 rfl rfl)
theorem dJ6_isLatin1_3 : decode cJ6_isLatin1 3 = .ok (.ifCond .eq 14, 3) := dk_153 0 14 (dk_at dksJ6_isLatin1_0 3 rfl rfl)
theorem dJ6_isLatin1_6 : decode cJ6_isLatin1 6 = .ok (.aload_n 0, 1) := dk_42 (dk_at dksJ6_isLatin1_0 6 rfl rfl)
theorem dJ6_isLatin1_7 : decode cJ6_isLatin1 7 = .ok (.getfield 15, 3) := dk_180 0 15 (dk_at dksJ6_isLatin1_0 7 rfl rfl)
theorem dJ6_isLatin1_10 : decode cJ6_isLatin1 10 = .ok (.ifCond .ne 7, 3) := dk_154 0 7 (dk_at dksJ6_isLatin1_0 10 rfl rfl)
theorem dJ6_isLatin1_13 : decode cJ6_isLatin1 13 = .ok (.iconst 1, 1) := dk_4 (dk_at dksJ6_isLatin1_0 13 rfl rfl)
theorem dJ6_isLatin1_14 : decode cJ6_isLatin1 14 = .ok (.goto 4, 3) := dk_167 0 4 (dk_at dksJ6_isLatin1_0 14 rfl rfl)
theorem dJ6_isLatin1_17 : decode cJ6_isLatin1 17 = .ok (.iconst 0, 1) := dk_3 (dk_at dksJ6_isLatin1_0 17 rfl rfl)
theorem dJ6_isLatin1_18 : decode cJ6_isLatin1 18 = .ok (.ireturn, 1) := dk_172 (dk_at dksJ6_isLatin1_0 18 rfl rfl)
abbrev cJ6_checkIndex : ByteArray := prog_18_method_155_code
def yJ6_checkIndex : MethodName := ⟨RJ6, "checkIndex", "(II)V"⟩
def dkwJ6_checkIndex_0 : List UInt8 := [26, 27, 178, 4, 29, 184, 4, 35, 87, 177]
abbrev dktJ6_checkIndex_0 : List UInt8 := dkwJ6_checkIndex_0 ++ []
theorem dksJ6_checkIndex_0 : cJ6_checkIndex.data.toList.drop 0 = dktJ6_checkIndex_0 := by decide +kernel
theorem dJ6_checkIndex_0 : decode cJ6_checkIndex 0 = .ok (.iload_n 0, 1) := dk_26 (dk_at dksJ6_checkIndex_0 0 rfl rfl)
theorem dJ6_checkIndex_1 : decode cJ6_checkIndex 1 = .ok (.iload_n 1, 1) := dk_27 (dk_at dksJ6_checkIndex_0 1 rfl rfl)
theorem dJ6_checkIndex_2 : decode cJ6_checkIndex 2 = .ok (.getstatic 1053, 3) := dk_178 4 29 (dk_at dksJ6_checkIndex_0 2 rfl rfl)
theorem dJ6_checkIndex_5 : decode cJ6_checkIndex 5 = .ok (.invokestatic 1059, 3) := dk_184 4 35 (dk_at dksJ6_checkIndex_0 5 rfl rfl)
theorem dJ6_checkIndex_8 : decode cJ6_checkIndex 8 = .ok (.pop, 1) := dk_87 (dk_at dksJ6_checkIndex_0 8 rfl rfl)
theorem dJ6_checkIndex_9 : decode cJ6_checkIndex 9 = .ok (.return_, 1) := dk_177 (dk_at dksJ6_checkIndex_0 9 rfl rfl)
theorem q83 : (Jvm.Cond.initialized "java/lang/String") ∈ lw_all := lw_g (lw_at lw_m1 14 rfl) rfl
theorem q514 : (Jvm.Cond.instanceMethod ({ cls := "java/lang/String", name := "length", desc := "()I" } : Jvm.MethodName)) ∈ lw_all := lw_g (lw_at lw_m2 205 rfl) rfl
theorem q515 : (Jvm.Cond.selects "java/lang/String" ({ cls := "java/lang/String", name := "length", desc := "()I" } : Jvm.MethodName) ({ cls := "java/lang/String", name := "length", desc := "()I" } : Jvm.MethodName)) ∈ lw_all := lw_g (lw_at lw_m2 206 rfl) rfl
theorem q516 : (Jvm.Cond.code ({ cls := "java/lang/String", name := "length", desc := "()I" } : Jvm.MethodName) prog_18_method_54_code (1 : Nat) (Option.some Jvm.ClassFile.FieldType.int)) ∈ lw_all := lw_g (lw_at lw_m2 207 rfl) rfl
theorem q517 : (Jvm.Cond.methodLink "java/lang/String" (335 : Nat) ({ cls := "java/lang/String", name := "coder", desc := "()B" } : Jvm.MethodName)) ∈ lw_all := lw_g (lw_at lw_m2 208 rfl) rfl
theorem q518 : (Jvm.Cond.instanceMethod ({ cls := "java/lang/String", name := "coder", desc := "()B" } : Jvm.MethodName)) ∈ lw_all := lw_g (lw_at lw_m2 209 rfl) rfl
theorem q519 : (Jvm.Cond.selects "java/lang/String" ({ cls := "java/lang/String", name := "coder", desc := "()B" } : Jvm.MethodName) ({ cls := "java/lang/String", name := "coder", desc := "()B" } : Jvm.MethodName)) ∈ lw_all := lw_g (lw_at lw_m2 210 rfl) rfl
theorem q520 : (Jvm.Cond.code ({ cls := "java/lang/String", name := "coder", desc := "()B" } : Jvm.MethodName) prog_18_method_152_code (1 : Nat) (Option.some Jvm.ClassFile.FieldType.byte)) ∈ lw_all := lw_g (lw_at lw_m2 211 rfl) rfl
theorem q521 : (Jvm.Cond.fieldLink "java/lang/String" (38 : Nat) "java/lang/String" "COMPACT_STRINGS" "Z") ∈ lw_all := lw_g (lw_at lw_m2 212 rfl) rfl
theorem q522 : (Jvm.Cond.laysStatic "java/lang/String" "COMPACT_STRINGS" "Z") ∈ lw_tbl := lw_at lw_m2 213 rfl
theorem q524 : (Jvm.Cond.instanceMethod ({ cls := "java/lang/String", name := "charAt", desc := "(I)C" } : Jvm.MethodName)) ∈ lw_all := lw_g (lw_at lw_m2 215 rfl) rfl
theorem q525 : (Jvm.Cond.selects "java/lang/String" ({ cls := "java/lang/String", name := "charAt", desc := "(I)C" } : Jvm.MethodName) ({ cls := "java/lang/String", name := "charAt", desc := "(I)C" } : Jvm.MethodName)) ∈ lw_all := lw_g (lw_at lw_m2 216 rfl) rfl
theorem q526 : (Jvm.Cond.code ({ cls := "java/lang/String", name := "charAt", desc := "(I)C" } : Jvm.MethodName) prog_18_method_56_code (2 : Nat) (Option.some Jvm.ClassFile.FieldType.char)) ∈ lw_all := lw_g (lw_at lw_m2 217 rfl) rfl
theorem q527 : (Jvm.Cond.methodLink "java/lang/String" (492 : Nat) ({ cls := "java/lang/String", name := "isLatin1", desc := "()Z" } : Jvm.MethodName)) ∈ lw_all := lw_g (lw_at lw_m2 218 rfl) rfl
theorem q528 : (Jvm.Cond.instanceMethod ({ cls := "java/lang/String", name := "isLatin1", desc := "()Z" } : Jvm.MethodName)) ∈ lw_all := lw_g (lw_at lw_m2 219 rfl) rfl
theorem q529 : (Jvm.Cond.selects "java/lang/String" ({ cls := "java/lang/String", name := "isLatin1", desc := "()Z" } : Jvm.MethodName) ({ cls := "java/lang/String", name := "isLatin1", desc := "()Z" } : Jvm.MethodName)) ∈ lw_all := lw_g (lw_at lw_m2 220 rfl) rfl
theorem q530 : (Jvm.Cond.code ({ cls := "java/lang/String", name := "isLatin1", desc := "()Z" } : Jvm.MethodName) prog_18_method_154_code (1 : Nat) (Option.some Jvm.ClassFile.FieldType.boolean)) ∈ lw_all := lw_g (lw_at lw_m2 221 rfl) rfl
theorem q531 : (Jvm.Cond.methodLink "java/lang/String" (495 : Nat) ({ cls := "java/lang/StringLatin1", name := "charAt", desc := "([BI)C" } : Jvm.MethodName)) ∈ lw_all := lw_g (lw_at lw_m2 222 rfl) rfl
theorem q535 : (Jvm.Cond.static ({ cls := "java/lang/String", name := "checkIndex", desc := "(II)V" } : Jvm.MethodName)) ∈ lw_all := lw_g (lw_at lw_m2 226 rfl) rfl
theorem q536 : (Jvm.Cond.code ({ cls := "java/lang/String", name := "checkIndex", desc := "(II)V" } : Jvm.MethodName) prog_18_method_155_code (2 : Nat) (Option.none : Option Jvm.ClassFile.FieldType)) ∈ lw_all := lw_g (lw_at lw_m2 227 rfl) rfl
theorem q537 : (Jvm.Cond.fieldLink "java/lang/String" (1053 : Nat) "jdk/internal/util/Preconditions" "SIOOBE_FORMATTER" "Ljava/util/function/BiFunction;") ∈ lw_all := lw_g (lw_at lw_m2 228 rfl) rfl
theorem q539 : (Jvm.Cond.methodLink "java/lang/String" (1059 : Nat) ({ cls := "jdk/internal/util/Preconditions", name := "checkIndex", desc := "(IILjava/util/function/BiFunction;)I" } : Jvm.MethodName)) ∈ lw_all := lw_g (lw_at lw_m2 230 rfl) rfl
theorem q542 : (Jvm.Cond.methodLink "java/lang/String" (498 : Nat) ({ cls := "java/lang/StringUTF16", name := "charAt", desc := "([BI)C" } : Jvm.MethodName)) ∈ lw_all := lw_g (lw_at lw_m2 233 rfl) rfl
theorem q1601 : (Jvm.Cond.castable "java/lang/String" "java/lang/Object") ∈ lw_tbl := lw_at lw_m7 92 rfl
theorem q1611 : (Jvm.Cond.fieldLink "java/lang/String" (9 : Nat) "java/lang/String" "value" "[B") ∈ lw_all := lw_g (lw_at lw_m7 102 rfl) rfl
theorem q1612 : (Jvm.Cond.fieldLink "java/lang/String" (15 : Nat) "java/lang/String" "coder" "B") ∈ lw_all := lw_g (lw_at lw_m7 103 rfl) rfl
/-! java/lang/StringLatin1 -/
set_option maxRecDepth 100000
def RJ7 : String := "java/lang/StringLatin1"
abbrev cJ7_charAt : ByteArray := prog_19_method_2_code
def yJ7_charAt : MethodName := ⟨RJ7, "charAt", "([BI)C"⟩
def dkwJ7_charAt_0 : List UInt8 := [27, 42, 190, 184, 0, 9, 42, 27, 51, 17, 0, 255, 126, 146, 172]
abbrev dktJ7_charAt_0 : List UInt8 := dkwJ7_charAt_0 ++ []
theorem dksJ7_charAt_0 : cJ7_charAt.data.toList.drop 0 = dktJ7_charAt_0 := by decide +kernel
theorem dJ7_charAt_0 : decode cJ7_charAt 0 = .ok (.iload_n 1, 1) := dk_27 (dk_at dksJ7_charAt_0 0 rfl rfl)
theorem dJ7_charAt_1 : decode cJ7_charAt 1 = .ok (.aload_n 0, 1) := dk_42 (dk_at dksJ7_charAt_0 1 rfl rfl)
theorem dJ7_charAt_2 : decode cJ7_charAt 2 = .ok (.arraylength, 1) := dk_190 (dk_at dksJ7_charAt_0 2 rfl rfl)
theorem dJ7_charAt_3 : decode cJ7_charAt 3 = .ok (.invokestatic 9, 3) := dk_184 0 9 (dk_at dksJ7_charAt_0 3 rfl rfl)
theorem dJ7_charAt_6 : decode cJ7_charAt 6 = .ok (.aload_n 0, 1) := dk_42 (dk_at dksJ7_charAt_0 6 rfl rfl)
theorem dJ7_charAt_7 : decode cJ7_charAt 7 = .ok (.iload_n 1, 1) := dk_27 (dk_at dksJ7_charAt_0 7 rfl rfl)
theorem dJ7_charAt_8 : decode cJ7_charAt 8 = .ok (.baload, 1) := dk_51 (dk_at dksJ7_charAt_0 8 rfl rfl)
theorem dJ7_charAt_9 : decode cJ7_charAt 9 = .ok (.sipush 255, 3) := dk_17 0 255 (dk_at dksJ7_charAt_0 9 rfl rfl)
theorem dJ7_charAt_12 : decode cJ7_charAt 12 = .ok (.iand, 1) := dk_126 (dk_at dksJ7_charAt_0 12 rfl rfl)
theorem dJ7_charAt_13 : decode cJ7_charAt 13 = .ok (.i2c, 1) := dk_146 (dk_at dksJ7_charAt_0 13 rfl rfl)
theorem dJ7_charAt_14 : decode cJ7_charAt 14 = .ok (.ireturn, 1) := dk_172 (dk_at dksJ7_charAt_0 14 rfl rfl)
theorem q84 : (Jvm.Cond.initialized "java/lang/StringLatin1") ∈ lw_all := lw_g (lw_at lw_m1 15 rfl) rfl
theorem q532 : (Jvm.Cond.static ({ cls := "java/lang/StringLatin1", name := "charAt", desc := "([BI)C" } : Jvm.MethodName)) ∈ lw_all := lw_g (lw_at lw_m2 223 rfl) rfl
theorem q533 : (Jvm.Cond.code ({ cls := "java/lang/StringLatin1", name := "charAt", desc := "([BI)C" } : Jvm.MethodName) prog_19_method_2_code (2 : Nat) (Option.some Jvm.ClassFile.FieldType.char)) ∈ lw_all := lw_g (lw_at lw_m2 224 rfl) rfl
theorem q534 : (Jvm.Cond.methodLink "java/lang/StringLatin1" (9 : Nat) ({ cls := "java/lang/String", name := "checkIndex", desc := "(II)V" } : Jvm.MethodName)) ∈ lw_all := lw_g (lw_at lw_m2 225 rfl) rfl
/-! jdk/internal/util/Preconditions -/
set_option maxRecDepth 100000
def RJ8 : String := "jdk/internal/util/Preconditions"
abbrev cJ8_checkIndex : ByteArray := prog_35_method_11_code
def yJ8_checkIndex : MethodName := ⟨RJ8, "checkIndex", "(IILjava/util/function/BiFunction;)I"⟩
def dkwJ8_checkIndex_0 : List UInt8 := [26, 155, 0, 8, 26, 27, 161, 0, 10, 44, 26, 27, 184, 0, 95, 191, 26, 172]
abbrev dktJ8_checkIndex_0 : List UInt8 := dkwJ8_checkIndex_0 ++ []
theorem dksJ8_checkIndex_0 : cJ8_checkIndex.data.toList.drop 0 = dktJ8_checkIndex_0 := by decide +kernel
theorem dJ8_checkIndex_0 : decode cJ8_checkIndex 0 = .ok (.iload_n 0, 1) := dk_26 (dk_at dksJ8_checkIndex_0 0 rfl rfl)
theorem dJ8_checkIndex_1 : decode cJ8_checkIndex 1 = .ok (.ifCond .lt 8, 3) := dk_155 0 8 (dk_at dksJ8_checkIndex_0 1 rfl rfl)
theorem dJ8_checkIndex_4 : decode cJ8_checkIndex 4 = .ok (.iload_n 0, 1) := dk_26 (dk_at dksJ8_checkIndex_0 4 rfl rfl)
theorem dJ8_checkIndex_5 : decode cJ8_checkIndex 5 = .ok (.iload_n 1, 1) := dk_27 (dk_at dksJ8_checkIndex_0 5 rfl rfl)
theorem dJ8_checkIndex_6 : decode cJ8_checkIndex 6 = .ok (.if_icmp .lt 10, 3) := dk_161 0 10 (dk_at dksJ8_checkIndex_0 6 rfl rfl)
theorem dJ8_checkIndex_9 : decode cJ8_checkIndex 9 = .ok (.aload_n 2, 1) := dk_44 (dk_at dksJ8_checkIndex_0 9 rfl rfl)
theorem dJ8_checkIndex_10 : decode cJ8_checkIndex 10 = .ok (.iload_n 0, 1) := dk_26 (dk_at dksJ8_checkIndex_0 10 rfl rfl)
theorem dJ8_checkIndex_11 : decode cJ8_checkIndex 11 = .ok (.iload_n 1, 1) := dk_27 (dk_at dksJ8_checkIndex_0 11 rfl rfl)
theorem dJ8_checkIndex_12 : decode cJ8_checkIndex 12 = .ok (.invokestatic 95, 3) := dk_184 0 95 (dk_at dksJ8_checkIndex_0 12 rfl rfl)
theorem dJ8_checkIndex_15 : decode cJ8_checkIndex 15 = .ok (.athrow, 1) := dk_191 (dk_at dksJ8_checkIndex_0 15 rfl rfl)
theorem dJ8_checkIndex_16 : decode cJ8_checkIndex 16 = .ok (.iload_n 0, 1) := dk_26 (dk_at dksJ8_checkIndex_0 16 rfl rfl)
theorem dJ8_checkIndex_17 : decode cJ8_checkIndex 17 = .ok (.ireturn, 1) := dk_172 (dk_at dksJ8_checkIndex_0 17 rfl rfl)
theorem q85 : (Jvm.Cond.initialized "jdk/internal/util/Preconditions") ∈ lw_all := lw_g (lw_at lw_m1 16 rfl) rfl
theorem q538 : (Jvm.Cond.laysStatic "jdk/internal/util/Preconditions" "SIOOBE_FORMATTER" "Ljava/util/function/BiFunction;") ∈ lw_tbl := lw_at lw_m2 229 rfl
theorem q540 : (Jvm.Cond.static ({ cls := "jdk/internal/util/Preconditions", name := "checkIndex", desc := "(IILjava/util/function/BiFunction;)I" } : Jvm.MethodName)) ∈ lw_all := lw_g (lw_at lw_m2 231 rfl) rfl
theorem q541 : (Jvm.Cond.code ({ cls := "jdk/internal/util/Preconditions", name := "checkIndex", desc := "(IILjava/util/function/BiFunction;)I" } : Jvm.MethodName) prog_35_method_11_code (3 : Nat) (Option.some Jvm.ClassFile.FieldType.int)) ∈ lw_all := lw_g (lw_at lw_m2 232 rfl) rfl
/-! java/lang/StringUTF16 -/
set_option maxRecDepth 100000
def RJ9 : String := "java/lang/StringUTF16"
abbrev cJ9_charAt : ByteArray := prog_20_method_83_code
def yJ9_charAt : MethodName := ⟨RJ9, "charAt", "([BI)C"⟩
def dkwJ9_charAt_0 : List UInt8 := [27, 42, 184, 0, 67, 42, 27, 184, 0, 71, 172]
abbrev dktJ9_charAt_0 : List UInt8 := dkwJ9_charAt_0 ++ []
theorem dksJ9_charAt_0 : cJ9_charAt.data.toList.drop 0 = dktJ9_charAt_0 := by decide +kernel
theorem dJ9_charAt_0 : decode cJ9_charAt 0 = .ok (.iload_n 1, 1) := dk_27 (dk_at dksJ9_charAt_0 0 rfl rfl)
theorem dJ9_charAt_1 : decode cJ9_charAt 1 = .ok (.aload_n 0, 1) := dk_42 (dk_at dksJ9_charAt_0 1 rfl rfl)
theorem dJ9_charAt_2 : decode cJ9_charAt 2 = .ok (.invokestatic 67, 3) := dk_184 0 67 (dk_at dksJ9_charAt_0 2 rfl rfl)
theorem dJ9_charAt_5 : decode cJ9_charAt 5 = .ok (.aload_n 0, 1) := dk_42 (dk_at dksJ9_charAt_0 5 rfl rfl)
theorem dJ9_charAt_6 : decode cJ9_charAt 6 = .ok (.iload_n 1, 1) := dk_27 (dk_at dksJ9_charAt_0 6 rfl rfl)
theorem dJ9_charAt_7 : decode cJ9_charAt 7 = .ok (.invokestatic 71, 3) := dk_184 0 71 (dk_at dksJ9_charAt_0 7 rfl rfl)
theorem dJ9_charAt_10 : decode cJ9_charAt 10 = .ok (.ireturn, 1) := dk_172 (dk_at dksJ9_charAt_0 10 rfl rfl)
abbrev cJ9_checkIndex : ByteArray := prog_20_method_91_code
def yJ9_checkIndex : MethodName := ⟨RJ9, "checkIndex", "(I[B)V"⟩
def dkwJ9_checkIndex_0 : List UInt8 := [26, 43, 184, 0, 48, 184, 1, 158, 177]
abbrev dktJ9_checkIndex_0 : List UInt8 := dkwJ9_checkIndex_0 ++ []
theorem dksJ9_checkIndex_0 : cJ9_checkIndex.data.toList.drop 0 = dktJ9_checkIndex_0 := by decide +kernel
theorem dJ9_checkIndex_0 : decode cJ9_checkIndex 0 = .ok (.iload_n 0, 1) := dk_26 (dk_at dksJ9_checkIndex_0 0 rfl rfl)
theorem dJ9_checkIndex_1 : decode cJ9_checkIndex 1 = .ok (.aload_n 1, 1) := dk_43 (dk_at dksJ9_checkIndex_0 1 rfl rfl)
theorem dJ9_checkIndex_2 : decode cJ9_checkIndex 2 = .ok (.invokestatic 48, 3) := dk_184 0 48 (dk_at dksJ9_checkIndex_0 2 rfl rfl)
theorem dJ9_checkIndex_5 : decode cJ9_checkIndex 5 = .ok (.invokestatic 414, 3) := dk_184 1 158 (dk_at dksJ9_checkIndex_0 5 rfl rfl)
theorem dJ9_checkIndex_8 : decode cJ9_checkIndex 8 = .ok (.return_, 1) := dk_177 (dk_at dksJ9_checkIndex_0 8 rfl rfl)
abbrev cJ9_length : ByteArray := prog_20_method_6_code
def yJ9_length : MethodName := ⟨RJ9, "length", "([B)I"⟩
def dkwJ9_length_0 : List UInt8 := [42, 190, 4, 122, 172]
abbrev dktJ9_length_0 : List UInt8 := dkwJ9_length_0 ++ []
theorem dksJ9_length_0 : cJ9_length.data.toList.drop 0 = dktJ9_length_0 := by decide +kernel
theorem dJ9_length_0 : decode cJ9_length 0 = .ok (.aload_n 0, 1) := dk_42 (dk_at dksJ9_length_0 0 rfl rfl)
theorem dJ9_length_1 : decode cJ9_length 1 = .ok (.arraylength, 1) := dk_190 (dk_at dksJ9_length_0 1 rfl rfl)
theorem dJ9_length_2 : decode cJ9_length 2 = .ok (.iconst 1, 1) := dk_4 (dk_at dksJ9_length_0 2 rfl rfl)
theorem dJ9_length_3 : decode cJ9_length 3 = .ok (.ishr, 1) := dk_122 (dk_at dksJ9_length_0 3 rfl rfl)
theorem dJ9_length_4 : decode cJ9_length 4 = .ok (.ireturn, 1) := dk_172 (dk_at dksJ9_length_0 4 rfl rfl)
abbrev cJ9_getChar : ByteArray := prog_20_method_5_code
def yJ9_getChar : MethodName := ⟨RJ9, "getChar", "([BI)C"⟩
def dkwJ9_getChar_2 : List UInt8 := [51, 17, 0, 255, 126, 178, 0, 63, 120, 128, 146, 172]
abbrev dktJ9_getChar_2 : List UInt8 := dkwJ9_getChar_2 ++ []
def dkwJ9_getChar_1 : List UInt8 := [183, 0, 56, 191, 27, 4, 120, 60, 42, 27, 132, 1, 1, 51, 17, 0, 255, 126, 178, 0, 59, 120, 42, 27]
abbrev dktJ9_getChar_1 : List UInt8 := dkwJ9_getChar_1 ++ dktJ9_getChar_2
def dkwJ9_getChar_0 : List UInt8 := [178, 0, 44, 154, 0, 25, 27, 155, 0, 11, 27, 42, 184, 0, 48, 161, 0, 13, 187, 0, 52, 89, 18, 54]
abbrev dktJ9_getChar_0 : List UInt8 := dkwJ9_getChar_0 ++ dktJ9_getChar_1
theorem dksJ9_getChar_0 : cJ9_getChar.data.toList.drop 0 = dktJ9_getChar_0 := by decide +kernel
theorem dksJ9_getChar_1 : cJ9_getChar.data.toList.drop 24 = dktJ9_getChar_1 := dk_seg dksJ9_getChar_0 24 rfl rfl
theorem dksJ9_getChar_2 : cJ9_getChar.data.toList.drop 48 = dktJ9_getChar_2 := dk_seg dksJ9_getChar_1 24 rfl rfl
theorem dJ9_getChar_0 : decode cJ9_getChar 0 = .ok (.getstatic 44, 3) := dk_178 0 44 (dk_at dksJ9_getChar_0 0 rfl rfl)
theorem dJ9_getChar_3 : decode cJ9_getChar 3 = .ok (.ifCond .ne 25, 3) := dk_154 0 25 (dk_at dksJ9_getChar_0 3 rfl rfl)
theorem dJ9_getChar_6 : decode cJ9_getChar 6 = .ok (.iload_n 1, 1) := dk_27 (dk_at dksJ9_getChar_0 6 rfl rfl)
theorem dJ9_getChar_7 : decode cJ9_getChar 7 = .ok (.ifCond .lt 11, 3) := dk_155 0 11 (dk_at dksJ9_getChar_0 7 rfl rfl)
theorem dJ9_getChar_10 : decode cJ9_getChar 10 = .ok (.iload_n 1, 1) := dk_27 (dk_at dksJ9_getChar_0 10 rfl rfl)
theorem dJ9_getChar_11 : decode cJ9_getChar 11 = .ok (.aload_n 0, 1) := dk_42 (dk_at dksJ9_getChar_0 11 rfl rfl)
theorem dJ9_getChar_12 : decode cJ9_getChar 12 = .ok (.invokestatic 48, 3) := dk_184 0 48 (dk_at dksJ9_getChar_0 12 rfl rfl)
theorem dJ9_getChar_15 : decode cJ9_getChar 15 = .ok (.if_icmp .lt 13, 3) := dk_161 0 13 (dk_at dksJ9_getChar_0 15 rfl rfl)
theorem dJ9_getChar_18 : decode cJ9_getChar 18 = .ok (.new 52, 3) := dk_187 0 52 (dk_at dksJ9_getChar_0 18 rfl rfl)
theorem dJ9_getChar_21 : decode cJ9_getChar 21 = .ok (.dup, 1) := dk_89 (dk_at dksJ9_getChar_0 21 rfl rfl)
theorem dJ9_getChar_22 : decode cJ9_getChar 22 = .ok (.ldc 54, 2) := dk_18 54 (dk_at dksJ9_getChar_0 22 rfl rfl)
theorem dJ9_getChar_24 : decode cJ9_getChar 24 = .ok (.invokespecial 56, 3) := dk_183 0 56 (dk_at dksJ9_getChar_1 0 rfl rfl)
theorem dJ9_getChar_27 : decode cJ9_getChar 27 = .ok (.athrow, 1) := dk_191 (dk_at dksJ9_getChar_1 3 rfl rfl)
theorem dJ9_getChar_28 : decode cJ9_getChar 28 = .ok (.iload_n 1, 1) := dk_27 (dk_at dksJ9_getChar_1 4 rfl rfl)
theorem dJ9_getChar_29 : decode cJ9_getChar 29 = .ok (.iconst 1, 1) := dk_4 (dk_at dksJ9_getChar_1 5 rfl rfl)
theorem dJ9_getChar_30 : decode cJ9_getChar 30 = .ok (.ishl, 1) := dk_120 (dk_at dksJ9_getChar_1 6 rfl rfl)
theorem dJ9_getChar_31 : decode cJ9_getChar 31 = .ok (.istore_n 1, 1) := dk_60 (dk_at dksJ9_getChar_1 7 rfl rfl)
theorem dJ9_getChar_32 : decode cJ9_getChar 32 = .ok (.aload_n 0, 1) := dk_42 (dk_at dksJ9_getChar_1 8 rfl rfl)
theorem dJ9_getChar_33 : decode cJ9_getChar 33 = .ok (.iload_n 1, 1) := dk_27 (dk_at dksJ9_getChar_1 9 rfl rfl)
theorem dJ9_getChar_34 : decode cJ9_getChar 34 = .ok (.iinc 1 1, 3) := dk_132 1 1 (dk_at dksJ9_getChar_1 10 rfl rfl)
theorem dJ9_getChar_37 : decode cJ9_getChar 37 = .ok (.baload, 1) := dk_51 (dk_at dksJ9_getChar_1 13 rfl rfl)
theorem dJ9_getChar_38 : decode cJ9_getChar 38 = .ok (.sipush 255, 3) := dk_17 0 255 (dk_at dksJ9_getChar_1 14 rfl rfl)
theorem dJ9_getChar_41 : decode cJ9_getChar 41 = .ok (.iand, 1) := dk_126 (dk_at dksJ9_getChar_1 17 rfl rfl)
theorem dJ9_getChar_42 : decode cJ9_getChar 42 = .ok (.getstatic 59, 3) := dk_178 0 59 (dk_at dksJ9_getChar_1 18 rfl rfl)
theorem dJ9_getChar_45 : decode cJ9_getChar 45 = .ok (.ishl, 1) := dk_120 (dk_at dksJ9_getChar_1 21 rfl rfl)
theorem dJ9_getChar_46 : decode cJ9_getChar 46 = .ok (.aload_n 0, 1) := dk_42 (dk_at dksJ9_getChar_1 22 rfl rfl)
theorem dJ9_getChar_47 : decode cJ9_getChar 47 = .ok (.iload_n 1, 1) := dk_27 (dk_at dksJ9_getChar_1 23 rfl rfl)
theorem dJ9_getChar_48 : decode cJ9_getChar 48 = .ok (.baload, 1) := dk_51 (dk_at dksJ9_getChar_2 0 rfl rfl)
theorem dJ9_getChar_49 : decode cJ9_getChar 49 = .ok (.sipush 255, 3) := dk_17 0 255 (dk_at dksJ9_getChar_2 1 rfl rfl)
theorem dJ9_getChar_52 : decode cJ9_getChar 52 = .ok (.iand, 1) := dk_126 (dk_at dksJ9_getChar_2 4 rfl rfl)
theorem dJ9_getChar_53 : decode cJ9_getChar 53 = .ok (.getstatic 63, 3) := dk_178 0 63 (dk_at dksJ9_getChar_2 5 rfl rfl)
theorem dJ9_getChar_56 : decode cJ9_getChar 56 = .ok (.ishl, 1) := dk_120 (dk_at dksJ9_getChar_2 8 rfl rfl)
theorem dJ9_getChar_57 : decode cJ9_getChar 57 = .ok (.ior, 1) := dk_128 (dk_at dksJ9_getChar_2 9 rfl rfl)
theorem dJ9_getChar_58 : decode cJ9_getChar 58 = .ok (.i2c, 1) := dk_146 (dk_at dksJ9_getChar_2 10 rfl rfl)
theorem dJ9_getChar_59 : decode cJ9_getChar 59 = .ok (.ireturn, 1) := dk_172 (dk_at dksJ9_getChar_2 11 rfl rfl)
theorem q86 : (Jvm.Cond.initialized "java/lang/StringUTF16") ∈ lw_all := lw_g (lw_at lw_m1 17 rfl) rfl
theorem q543 : (Jvm.Cond.static ({ cls := "java/lang/StringUTF16", name := "charAt", desc := "([BI)C" } : Jvm.MethodName)) ∈ lw_all := lw_g (lw_at lw_m2 234 rfl) rfl
theorem q544 : (Jvm.Cond.code ({ cls := "java/lang/StringUTF16", name := "charAt", desc := "([BI)C" } : Jvm.MethodName) prog_20_method_83_code (2 : Nat) (Option.some Jvm.ClassFile.FieldType.char)) ∈ lw_all := lw_g (lw_at lw_m2 235 rfl) rfl
theorem q545 : (Jvm.Cond.methodLink "java/lang/StringUTF16" (67 : Nat) ({ cls := "java/lang/StringUTF16", name := "checkIndex", desc := "(I[B)V" } : Jvm.MethodName)) ∈ lw_all := lw_g (lw_at lw_m2 236 rfl) rfl
theorem q546 : (Jvm.Cond.static ({ cls := "java/lang/StringUTF16", name := "checkIndex", desc := "(I[B)V" } : Jvm.MethodName)) ∈ lw_all := lw_g (lw_at lw_m2 237 rfl) rfl
theorem q547 : (Jvm.Cond.code ({ cls := "java/lang/StringUTF16", name := "checkIndex", desc := "(I[B)V" } : Jvm.MethodName) prog_20_method_91_code (2 : Nat) (Option.none : Option Jvm.ClassFile.FieldType)) ∈ lw_all := lw_g (lw_at lw_m2 238 rfl) rfl
theorem q548 : (Jvm.Cond.methodLink "java/lang/StringUTF16" (48 : Nat) ({ cls := "java/lang/StringUTF16", name := "length", desc := "([B)I" } : Jvm.MethodName)) ∈ lw_all := lw_g (lw_at lw_m2 239 rfl) rfl
theorem q549 : (Jvm.Cond.static ({ cls := "java/lang/StringUTF16", name := "length", desc := "([B)I" } : Jvm.MethodName)) ∈ lw_all := lw_g (lw_at lw_m3 0 rfl) rfl
theorem q550 : (Jvm.Cond.code ({ cls := "java/lang/StringUTF16", name := "length", desc := "([B)I" } : Jvm.MethodName) prog_20_method_6_code (1 : Nat) (Option.some Jvm.ClassFile.FieldType.int)) ∈ lw_all := lw_g (lw_at lw_m3 1 rfl) rfl
theorem q551 : (Jvm.Cond.methodLink "java/lang/StringUTF16" (414 : Nat) ({ cls := "java/lang/String", name := "checkIndex", desc := "(II)V" } : Jvm.MethodName)) ∈ lw_all := lw_g (lw_at lw_m3 2 rfl) rfl
theorem q552 : (Jvm.Cond.methodLink "java/lang/StringUTF16" (71 : Nat) ({ cls := "java/lang/StringUTF16", name := "getChar", desc := "([BI)C" } : Jvm.MethodName)) ∈ lw_all := lw_g (lw_at lw_m3 3 rfl) rfl
theorem q553 : (Jvm.Cond.static ({ cls := "java/lang/StringUTF16", name := "getChar", desc := "([BI)C" } : Jvm.MethodName)) ∈ lw_all := lw_g (lw_at lw_m3 4 rfl) rfl
theorem q554 : (Jvm.Cond.code ({ cls := "java/lang/StringUTF16", name := "getChar", desc := "([BI)C" } : Jvm.MethodName) prog_20_method_5_code (2 : Nat) (Option.some Jvm.ClassFile.FieldType.char)) ∈ lw_all := lw_g (lw_at lw_m3 5 rfl) rfl
theorem q555 : (Jvm.Cond.fieldLink "java/lang/StringUTF16" (44 : Nat) "java/lang/StringUTF16" "$assertionsDisabled" "Z") ∈ lw_all := lw_g (lw_at lw_m3 6 rfl) rfl
theorem q556 : (Jvm.Cond.laysStatic "java/lang/StringUTF16" "$assertionsDisabled" "Z") ∈ lw_tbl := lw_at lw_m3 7 rfl
theorem q557 : (Jvm.Cond.fieldLink "java/lang/StringUTF16" (59 : Nat) "java/lang/StringUTF16" "HI_BYTE_SHIFT" "I") ∈ lw_all := lw_g (lw_at lw_m3 8 rfl) rfl
theorem q558 : (Jvm.Cond.laysStatic "java/lang/StringUTF16" "HI_BYTE_SHIFT" "I") ∈ lw_tbl := lw_at lw_m3 9 rfl
theorem q559 : (Jvm.Cond.fieldLink "java/lang/StringUTF16" (63 : Nat) "java/lang/StringUTF16" "LO_BYTE_SHIFT" "I") ∈ lw_all := lw_g (lw_at lw_m3 10 rfl) rfl
theorem q560 : (Jvm.Cond.laysStatic "java/lang/StringUTF16" "LO_BYTE_SHIFT" "I") ∈ lw_tbl := lw_at lw_m3 11 rfl
theorem q69 : (Jvm.Cond.initialized "SlimeNetLaw") ∈ lw_all := lw_g (lw_at lw_m1 0 rfl) rfl
set_option maxRecDepth 100000
theorem q93 : (Jvm.Cond.classLink "SlimeNetLaw" (7 : Nat) "SlimeNet") ∈ lw_all := lw_g (lw_at lw_m1 24 rfl) rfl
theorem q95 : (Jvm.Cond.methodLink "SlimeNetLaw" (9 : Nat) ({ cls := "SlimeNet", name := "<init>", desc := "()V" } : Jvm.MethodName)) ∈ lw_all := lw_g (lw_at lw_m1 26 rfl) rfl
theorem q419 : (Jvm.Cond.methodLink "SlimeNetLaw" (13 : Nat) ({ cls := "SlimeNet", name := "feed", desc := "(IIIII)I" } : Jvm.MethodName)) ∈ lw_all := lw_g (lw_at lw_m2 110 rfl) rfl
theorem q427 : (Jvm.Cond.methodLink "SlimeNetLaw" (18 : Nat) ({ cls := "SlimeNet", name := "end", desc := "(I)I" } : Jvm.MethodName)) ∈ lw_all := lw_g (lw_at lw_m2 118 rfl) rfl
theorem q431 : (Jvm.Cond.methodLink "SlimeNetLaw" (23 : Nat) ({ cls := "SlimeNet", name := "plate", desc := "()I" } : Jvm.MethodName)) ∈ lw_all := lw_g (lw_at lw_m2 122 rfl) rfl
theorem q757 : (Jvm.Cond.methodLink "SlimeNetLaw" (28 : Nat) ({ cls := "SlimeNet", name := "fault", desc := "(I)I" } : Jvm.MethodName)) ∈ lw_all := lw_g (lw_at lw_m3 208 rfl) rfl
theorem q761 : (Jvm.Cond.methodLink "SlimeNetLaw" (32 : Nat) ({ cls := "SlimeNet", name := "told", desc := "(I)I" } : Jvm.MethodName)) ∈ lw_all := lw_g (lw_at lw_m3 212 rfl) rfl
theorem q781 : (Jvm.Cond.methodLink "SlimeNetLaw" (36 : Nat) ({ cls := "SlimeNet", name := "width", desc := "(I)I" } : Jvm.MethodName)) ∈ lw_all := lw_g (lw_at lw_m3 232 rfl) rfl
theorem q785 : (Jvm.Cond.methodLink "SlimeNetLaw" (40 : Nat) ({ cls := "SlimeNet", name := "learnt", desc := "(I)I" } : Jvm.MethodName)) ∈ lw_all := lw_g (lw_at lw_m3 236 rfl) rfl
theorem q789 : (Jvm.Cond.methodLink "SlimeNetLaw" (44 : Nat) ({ cls := "SlimeNet", name := "set", desc := "(II)I" } : Jvm.MethodName)) ∈ lw_all := lw_g (lw_at lw_m4 0 rfl) rfl
theorem q793 : (Jvm.Cond.methodLink "SlimeNetLaw" (49 : Nat) ({ cls := "SlimeNet", name := "law", desc := "(II)I" } : Jvm.MethodName)) ∈ lw_all := lw_g (lw_at lw_m4 4 rfl) rfl
theorem q797 : (Jvm.Cond.methodLink "SlimeNetLaw" (53 : Nat) ({ cls := "SlimeNet", name := "flow", desc := "(I)J" } : Jvm.MethodName)) ∈ lw_all := lw_g (lw_at lw_m4 8 rfl) rfl
theorem q846 : (Jvm.Cond.methodLink "SlimeNetLaw" (58 : Nat) ({ cls := "SlimeNet", name := "under", desc := "(I)J" } : Jvm.MethodName)) ∈ lw_all := lw_g (lw_at lw_m4 57 rfl) rfl
theorem q850 : (Jvm.Cond.methodLink "SlimeNetLaw" (62 : Nat) ({ cls := "SlimeNet", name := "hours", desc := "(I)I" } : Jvm.MethodName)) ∈ lw_all := lw_g (lw_at lw_m4 61 rfl) rfl
theorem q863 : (Jvm.Cond.methodLink "SlimeNetLaw" (66 : Nat) ({ cls := "SlimeNet", name := "rest", desc := "()I" } : Jvm.MethodName)) ∈ lw_all := lw_g (lw_at lw_m4 74 rfl) rfl
theorem q880 : (Jvm.Cond.methodLink "SlimeNetLaw" (70 : Nat) ({ cls := "SlimeNet", name := "ring", desc := "()I" } : Jvm.MethodName)) ∈ lw_all := lw_g (lw_at lw_m4 91 rfl) rfl
theorem q884 : (Jvm.Cond.methodLink "SlimeNetLaw" (74 : Nat) ({ cls := "SlimeNet", name := "chance", desc := "(I)I" } : Jvm.MethodName)) ∈ lw_all := lw_g (lw_at lw_m4 95 rfl) rfl
theorem q896 : (Jvm.Cond.methodLink "SlimeNetLaw" (78 : Nat) ({ cls := "SlimeNet", name := "keep", desc := "(I)I" } : Jvm.MethodName)) ∈ lw_all := lw_g (lw_at lw_m4 107 rfl) rfl
theorem q907 : (Jvm.Cond.methodLink "SlimeNetLaw" (82 : Nat) ({ cls := "SlimeNet", name := "take", desc := "(I)I" } : Jvm.MethodName)) ∈ lw_all := lw_g (lw_at lw_m4 118 rfl) rfl
theorem q911 : (Jvm.Cond.methodLink "SlimeNetLaw" (86 : Nat) ({ cls := "SlimeNet", name := "alike", desc := "(II)I" } : Jvm.MethodName)) ∈ lw_all := lw_g (lw_at lw_m4 122 rfl) rfl
theorem q922 : (Jvm.Cond.methodLink "SlimeNetLaw" (90 : Nat) ({ cls := "SlimeNet", name := "tell", desc := "(I)I" } : Jvm.MethodName)) ∈ lw_all := lw_g (lw_at lw_m4 133 rfl) rfl
theorem q926 : (Jvm.Cond.methodLink "SlimeNetLaw" (94 : Nat) ({ cls := "SlimeNet", name := "own", desc := "()I" } : Jvm.MethodName)) ∈ lw_all := lw_g (lw_at lw_m4 137 rfl) rfl
theorem q930 : (Jvm.Cond.methodLink "SlimeNetLaw" (98 : Nat) ({ cls := "SlimeNet", name := "net", desc := "(II)I" } : Jvm.MethodName)) ∈ lw_all := lw_g (lw_at lw_m4 141 rfl) rfl
theorem q978 : (Jvm.Cond.methodLink "SlimeNetLaw" (102 : Nat) ({ cls := "SlimeNet", name := "shortest", desc := "()I" } : Jvm.MethodName)) ∈ lw_all := lw_g (lw_at lw_m4 189 rfl) rfl
theorem q982 : (Jvm.Cond.methodLink "SlimeNetLaw" (106 : Nat) ({ cls := "SlimeNet", name := "good", desc := "(I)I" } : Jvm.MethodName)) ∈ lw_all := lw_g (lw_at lw_m4 193 rfl) rfl
theorem q986 : (Jvm.Cond.methodLink "SlimeNetLaw" (110 : Nat) ({ cls := "SlimeNet", name := "maze", desc := "()I" } : Jvm.MethodName)) ∈ lw_all := lw_g (lw_at lw_m4 197 rfl) rfl
theorem q991 : (Jvm.Cond.methodLink "SlimeNetLaw" (114 : Nat) ({ cls := "SlimeNet", name := "see", desc := "(III)I" } : Jvm.MethodName)) ∈ lw_all := lw_g (lw_at lw_m4 202 rfl) rfl
theorem q995 : (Jvm.Cond.methodLink "SlimeNetLaw" (119 : Nat) ({ cls := "SlimeNet", name := "right", desc := "(III)I" } : Jvm.MethodName)) ∈ lw_all := lw_g (lw_at lw_m4 206 rfl) rfl
theorem q999 : (Jvm.Cond.methodLink "SlimeNetLaw" (123 : Nat) ({ cls := "SlimeNet", name := "fit", desc := "(II)I" } : Jvm.MethodName)) ∈ lw_all := lw_g (lw_at lw_m4 210 rfl) rfl
theorem q1012 : (Jvm.Cond.methodLink "SlimeNetLaw" (127 : Nat) ({ cls := "SlimeNet", name := "surely", desc := "(III)I" } : Jvm.MethodName)) ∈ lw_all := lw_g (lw_at lw_m4 223 rfl) rfl
theorem q1016 : (Jvm.Cond.methodLink "SlimeNetLaw" (131 : Nat) ({ cls := "SlimeNet", name := "look", desc := "()I" } : Jvm.MethodName)) ∈ lw_all := lw_g (lw_at lw_m4 227 rfl) rfl
theorem q1020 : (Jvm.Cond.methodLink "SlimeNetLaw" (135 : Nat) ({ cls := "SlimeNet", name := "count", desc := "(I)I" } : Jvm.MethodName)) ∈ lw_all := lw_g (lw_at lw_m4 231 rfl) rfl
theorem q1024 : (Jvm.Cond.classLink "SlimeNetLaw" (10 : Nat) "SlimeNetModel") ∈ lw_all := lw_g (lw_at lw_m4 235 rfl) rfl
theorem q1026 : (Jvm.Cond.methodLink "SlimeNetLaw" (12 : Nat) ({ cls := "SlimeNetModel", name := "<init>", desc := "()V" } : Jvm.MethodName)) ∈ lw_all := lw_g (lw_at lw_m4 237 rfl) rfl
theorem q1259 : (Jvm.Cond.methodLink "SlimeNetLaw" (17 : Nat) ({ cls := "SlimeNetModel", name := "feed", desc := "(IIIII)I" } : Jvm.MethodName)) ∈ lw_all := lw_g (lw_at lw_m5 230 rfl) rfl
theorem q1267 : (Jvm.Cond.methodLink "SlimeNetLaw" (22 : Nat) ({ cls := "SlimeNetModel", name := "end", desc := "(I)I" } : Jvm.MethodName)) ∈ lw_all := lw_g (lw_at lw_m5 238 rfl) rfl
theorem q1274 : (Jvm.Cond.methodLink "SlimeNetLaw" (27 : Nat) ({ cls := "SlimeNetModel", name := "plate", desc := "()I" } : Jvm.MethodName)) ∈ lw_all := lw_g (lw_at lw_m6 5 rfl) rfl
theorem q1360 : (Jvm.Cond.methodLink "SlimeNetLaw" (31 : Nat) ({ cls := "SlimeNetModel", name := "fault", desc := "(I)I" } : Jvm.MethodName)) ∈ lw_all := lw_g (lw_at lw_m6 91 rfl) rfl
theorem q1364 : (Jvm.Cond.methodLink "SlimeNetLaw" (35 : Nat) ({ cls := "SlimeNetModel", name := "told", desc := "(I)I" } : Jvm.MethodName)) ∈ lw_all := lw_g (lw_at lw_m6 95 rfl) rfl
theorem q1378 : (Jvm.Cond.methodLink "SlimeNetLaw" (39 : Nat) ({ cls := "SlimeNetModel", name := "width", desc := "(I)I" } : Jvm.MethodName)) ∈ lw_all := lw_g (lw_at lw_m6 109 rfl) rfl
theorem q1386 : (Jvm.Cond.methodLink "SlimeNetLaw" (43 : Nat) ({ cls := "SlimeNetModel", name := "learnt", desc := "(I)I" } : Jvm.MethodName)) ∈ lw_all := lw_g (lw_at lw_m6 117 rfl) rfl
theorem q1390 : (Jvm.Cond.methodLink "SlimeNetLaw" (48 : Nat) ({ cls := "SlimeNetModel", name := "set", desc := "(II)I" } : Jvm.MethodName)) ∈ lw_all := lw_g (lw_at lw_m6 121 rfl) rfl
theorem q1394 : (Jvm.Cond.methodLink "SlimeNetLaw" (52 : Nat) ({ cls := "SlimeNetModel", name := "law", desc := "(II)I" } : Jvm.MethodName)) ∈ lw_all := lw_g (lw_at lw_m6 125 rfl) rfl
theorem q1398 : (Jvm.Cond.methodLink "SlimeNetLaw" (57 : Nat) ({ cls := "SlimeNetModel", name := "flow", desc := "(I)J" } : Jvm.MethodName)) ∈ lw_all := lw_g (lw_at lw_m6 129 rfl) rfl
theorem q1421 : (Jvm.Cond.methodLink "SlimeNetLaw" (61 : Nat) ({ cls := "SlimeNetModel", name := "under", desc := "(I)J" } : Jvm.MethodName)) ∈ lw_all := lw_g (lw_at lw_m6 152 rfl) rfl
theorem q1425 : (Jvm.Cond.methodLink "SlimeNetLaw" (65 : Nat) ({ cls := "SlimeNetModel", name := "hours", desc := "(I)I" } : Jvm.MethodName)) ∈ lw_all := lw_g (lw_at lw_m6 156 rfl) rfl
theorem q1440 : (Jvm.Cond.methodLink "SlimeNetLaw" (69 : Nat) ({ cls := "SlimeNetModel", name := "rest", desc := "()I" } : Jvm.MethodName)) ∈ lw_all := lw_g (lw_at lw_m6 171 rfl) rfl
theorem q1452 : (Jvm.Cond.methodLink "SlimeNetLaw" (73 : Nat) ({ cls := "SlimeNetModel", name := "ring", desc := "()I" } : Jvm.MethodName)) ∈ lw_all := lw_g (lw_at lw_m6 183 rfl) rfl
theorem q1456 : (Jvm.Cond.methodLink "SlimeNetLaw" (77 : Nat) ({ cls := "SlimeNetModel", name := "chance", desc := "(I)I" } : Jvm.MethodName)) ∈ lw_all := lw_g (lw_at lw_m6 187 rfl) rfl
theorem q1464 : (Jvm.Cond.methodLink "SlimeNetLaw" (81 : Nat) ({ cls := "SlimeNetModel", name := "keep", desc := "(I)I" } : Jvm.MethodName)) ∈ lw_all := lw_g (lw_at lw_m6 195 rfl) rfl
theorem q1472 : (Jvm.Cond.methodLink "SlimeNetLaw" (85 : Nat) ({ cls := "SlimeNetModel", name := "take", desc := "(I)I" } : Jvm.MethodName)) ∈ lw_all := lw_g (lw_at lw_m6 203 rfl) rfl
theorem q1476 : (Jvm.Cond.methodLink "SlimeNetLaw" (89 : Nat) ({ cls := "SlimeNetModel", name := "alike", desc := "(II)I" } : Jvm.MethodName)) ∈ lw_all := lw_g (lw_at lw_m6 207 rfl) rfl
theorem q1480 : (Jvm.Cond.methodLink "SlimeNetLaw" (93 : Nat) ({ cls := "SlimeNetModel", name := "tell", desc := "(I)I" } : Jvm.MethodName)) ∈ lw_all := lw_g (lw_at lw_m6 211 rfl) rfl
theorem q1484 : (Jvm.Cond.methodLink "SlimeNetLaw" (97 : Nat) ({ cls := "SlimeNetModel", name := "own", desc := "()I" } : Jvm.MethodName)) ∈ lw_all := lw_g (lw_at lw_m6 215 rfl) rfl
theorem q1488 : (Jvm.Cond.methodLink "SlimeNetLaw" (101 : Nat) ({ cls := "SlimeNetModel", name := "net", desc := "(II)I" } : Jvm.MethodName)) ∈ lw_all := lw_g (lw_at lw_m6 219 rfl) rfl
theorem q1521 : (Jvm.Cond.methodLink "SlimeNetLaw" (105 : Nat) ({ cls := "SlimeNetModel", name := "shortest", desc := "()I" } : Jvm.MethodName)) ∈ lw_all := lw_g (lw_at lw_m7 12 rfl) rfl
theorem q1525 : (Jvm.Cond.methodLink "SlimeNetLaw" (109 : Nat) ({ cls := "SlimeNetModel", name := "good", desc := "(I)I" } : Jvm.MethodName)) ∈ lw_all := lw_g (lw_at lw_m7 16 rfl) rfl
theorem q1529 : (Jvm.Cond.methodLink "SlimeNetLaw" (113 : Nat) ({ cls := "SlimeNetModel", name := "maze", desc := "()I" } : Jvm.MethodName)) ∈ lw_all := lw_g (lw_at lw_m7 20 rfl) rfl
theorem q1534 : (Jvm.Cond.methodLink "SlimeNetLaw" (118 : Nat) ({ cls := "SlimeNetModel", name := "see", desc := "(III)I" } : Jvm.MethodName)) ∈ lw_all := lw_g (lw_at lw_m7 25 rfl) rfl
theorem q1543 : (Jvm.Cond.methodLink "SlimeNetLaw" (122 : Nat) ({ cls := "SlimeNetModel", name := "right", desc := "(III)I" } : Jvm.MethodName)) ∈ lw_all := lw_g (lw_at lw_m7 34 rfl) rfl
theorem q1547 : (Jvm.Cond.methodLink "SlimeNetLaw" (126 : Nat) ({ cls := "SlimeNetModel", name := "fit", desc := "(II)I" } : Jvm.MethodName)) ∈ lw_all := lw_g (lw_at lw_m7 38 rfl) rfl
theorem q1570 : (Jvm.Cond.methodLink "SlimeNetLaw" (130 : Nat) ({ cls := "SlimeNetModel", name := "surely", desc := "(III)I" } : Jvm.MethodName)) ∈ lw_all := lw_g (lw_at lw_m7 61 rfl) rfl
theorem q1574 : (Jvm.Cond.methodLink "SlimeNetLaw" (134 : Nat) ({ cls := "SlimeNetModel", name := "look", desc := "()I" } : Jvm.MethodName)) ∈ lw_all := lw_g (lw_at lw_m7 65 rfl) rfl
theorem q1578 : (Jvm.Cond.methodLink "SlimeNetLaw" (138 : Nat) ({ cls := "SlimeNetModel", name := "count", desc := "(I)I" } : Jvm.MethodName)) ∈ lw_all := lw_g (lw_at lw_m7 69 rfl) rfl
theorem q1605 : (Jvm.Cond.castable "[B" "java/lang/Object") ∈ lw_tbl := lw_at lw_m7 96 rfl
set_option maxRecDepth 100000
theorem q1607 : (Jvm.Cond.castable "[I" "java/lang/Object") ∈ lw_tbl := lw_at lw_m7 98 rfl
set_option maxRecDepth 100000
theorem q1606 : (Jvm.Cond.castable "[J" "java/lang/Object") ∈ lw_tbl := lw_at lw_m7 97 rfl
set_option maxRecDepth 100000
theorem q1608 : (Jvm.Cond.castable "[LSlimeNet$Slime;" "java/lang/Object") ∈ lw_tbl := lw_at lw_m7 99 rfl
set_option maxRecDepth 100000
theorem q1602 : (Jvm.Cond.sameMethod "[Ljava/lang/Object;" "java/lang/Object" "getClass" "()Ljava/lang/Class;") ∈ lw_all := lw_g (lw_at lw_m7 93 rfl) rfl
set_option maxRecDepth 100000
theorem q1603 : (Jvm.Cond.selects "[Ljava/lang/Object;" ({ cls := "java/lang/Object", name := "getClass", desc := "()Ljava/lang/Class;" } : Jvm.MethodName) ({ cls := "java/lang/Object", name := "getClass", desc := "()Ljava/lang/Class;" } : Jvm.MethodName)) ∈ lw_all := lw_g (lw_at lw_m7 94 rfl) rfl
theorem q1610 : (Jvm.Cond.castable "[Ljava/lang/Object;" "java/lang/Object") ∈ lw_tbl := lw_at lw_m7 101 rfl
theorem q1609 : (Jvm.Cond.castable "[Z" "java/lang/Object") ∈ lw_tbl := lw_at lw_m7 100 rfl
set_option maxRecDepth 100000
theorem q91 : (Jvm.Cond.initialized "java/lang/System") ∈ lw_all := lw_g (lw_at lw_m1 22 rfl) rfl
set_option maxRecDepth 100000
theorem q720 : (Jvm.Cond.static ({ cls := "java/lang/System", name := "arraycopy", desc := "(Ljava/lang/Object;ILjava/lang/Object;II)V" } : Jvm.MethodName)) ∈ lw_all := lw_g (lw_at lw_m3 171 rfl) rfl
theorem q721 : (Jvm.Cond.native ({ cls := "java/lang/System", name := "arraycopy", desc := "(Ljava/lang/Object;ILjava/lang/Object;II)V" } : Jvm.MethodName)) ∈ lw_all := lw_g (lw_at lw_m3 172 rfl) rfl
theorem q200 : (Jvm.Cond.arrayClass Jvm.ClassFile.FieldType.byte) ∈ lw_all := lw_g (lw_at lw_m1 131 rfl) rfl
set_option maxRecDepth 100000
theorem q201 : (Jvm.Cond.arrayClass Jvm.ClassFile.FieldType.long) ∈ lw_all := lw_g (lw_at lw_m1 132 rfl) rfl
theorem q259 : (Jvm.Cond.arrayClass Jvm.ClassFile.FieldType.int) ∈ lw_all := lw_g (lw_at lw_m1 190 rfl) rfl
theorem q313 : (Jvm.Cond.arrayOver (Jvm.ClassFile.FieldType.object "SlimeNet$Slime")) ∈ lw_tbl := lw_at lw_m2 4 rfl
theorem q418 : (Jvm.Cond.arrayClass Jvm.ClassFile.FieldType.boolean) ∈ lw_all := lw_g (lw_at lw_m2 109 rfl) rfl
theorem q714 : (Jvm.Cond.arrayOver (Jvm.ClassFile.FieldType.object "java/lang/Object")) ∈ lw_tbl := lw_at lw_m3 165 rfl
