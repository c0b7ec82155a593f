/-! WHAT THE SEGMENTS USE -/
set_option maxRecDepth 100000
/-! DECODE ROWS BY BYTES: one lemma an opcode; a method's code is cut into short pieces once, and a row reads its own piece alone. -/
set_option maxRecDepth 100000
/-- the code has just these bytes from pc on -/
def DkAt (code : ByteArray) (pc : Nat) (bs : List UInt8) : Prop := ∀ (j : Nat) (b : UInt8), bs[j]? = some b → code.data.toList[pc + j]? = some b
/-- the piece W has the bytes bs from its place j on -/
def dkIn (W : List UInt8) (j : Nat) (bs : List UInt8) : Bool := decide ((W.drop j).take bs.length = bs)
theorem dk_seg {l W T : List UInt8} {o o2 : Nat} (h : l.drop o = W ++ T) (n : Nat) (hn : W.length = n) (ho : o + n = o2) : l.drop o2 = T := by
  subst ho
  rw [← List.drop_drop, h, List.drop_left' hn]
theorem dk_at {code : ByteArray} {W T bs : List UInt8} {o pc : Nat} (h : code.data.toList.drop o = W ++ T) (j : Nat) (hp : o + j = pc) (hw : dkIn W j bs = true) : DkAt code pc bs := by
  subst hp
  intro i b e
  have h1 := of_decide_eq_true hw
  have h2 : i < bs.length := (List.getElem?_eq_some_iff.mp e).1
  have h3 : W[j + i]? = some b := by
    rw [← h1, List.getElem?_take, if_pos h2, List.getElem?_drop] at e
    exact e
  have h4 : j + i < W.length := (List.getElem?_eq_some_iff.mp h3).1
  have h5 : (code.data.toList.drop o)[j + i]? = some b := by
    rw [h, List.getElem?_append_left h4]
    exact h3
  rw [List.getElem?_drop, ← Nat.add_assoc] at h5
  exact h5
theorem dk_u1 {A : ByteArray} {p : Nat} {b : UInt8} (h : A.data.toList[p]? = some b) : (Reader.u1 : Reader DecodeError Nat) A p = .ok (b.toNat, p + 1) := by
  obtain ⟨h1, h2⟩ := List.getElem?_eq_some_iff.mp h
  have h3 : p < A.size := by simpa using h1
  have h4 : A[p]'h3 = b := h2
  have e : (Reader.u1 : Reader DecodeError Nat) A p = (if h : p < A.size then .ok (A[p].toNat, p + 1) else .error (HasTruncated.truncated p)) := by
    show (do if h : p < A.size then do set (p + 1); Pure.pure A[p].toNat else MonadExcept.throw (HasTruncated.truncated p) : Reader DecodeError Nat) A p = _
    by_cases hi : p < A.size
    · rw [dif_pos hi, dif_pos hi]; rfl
    · rw [dif_neg hi, dif_neg hi]; rfl
  rw [e, dif_pos h3, h4]
theorem dk_bind {α β : Type} {r : Reader DecodeError α} {f : α → Reader DecodeError β} {A : ByteArray} {p s : Nat} {a : α} (h : r A p = .ok (a, s)) : (r >>= f) A p = f a A s := by
  show (do let (a, s) ← r A p; f a A s : Except DecodeError (β × Nat)) = _
  rw [h]
  rfl
theorem dk_map {α β : Type} {r : Reader DecodeError α} {g : α → β} {A : ByteArray} {p s : Nat} {a : α} (h : r A p = .ok (a, s)) : (g <$> r) A p = .ok (g a, s) := by
  show (do let (a, s) ← r A p; .ok (g a, s) : Except DecodeError (β × Nat)) = _
  rw [h]
  rfl
theorem dk_u2 {A : ByteArray} {p : Nat} {a b : UInt8} (h : A.data.toList[p]? = some a) (h2 : A.data.toList[p + 1]? = some b) : (Reader.u2 : Reader DecodeError Nat) A p = .ok (a.toNat * 256 + b.toNat, p + 2) := by
  show (Reader.u1 >>= fun hi => Reader.u1 >>= fun lo => Pure.pure (hi * 256 + lo) : Reader DecodeError Nat) A p = _
  rw [dk_bind (dk_u1 h), dk_bind (dk_u1 h2)]
  rfl
theorem dk_of {code : ByteArray} {pc n : Nat} {i : Instr} (h : Decoder.instr pc code pc = .ok (i, pc + n)) : decode code pc = .ok (i, n) := by
  have e : decode code pc = (match Decoder.instr pc code pc with | .error x => .error x | .ok (j, s) => .ok (j, s - pc)) := by
    show (do let (j, s) ← Decoder.instr pc code pc; Pure.pure (j, s - pc) : Except DecodeError (Instr × Nat)) = _
    cases Decoder.instr pc code pc <;> rfl
  rw [e, h]
  show Except.ok (i, pc + n - pc) = _
  rw [Nat.add_sub_cancel_left]
theorem dk_1 {code : ByteArray} {pc : Nat} (h : DkAt code pc [1]) : decode code pc = .ok (.aconst_null, 1) := dk_of ((dk_bind (dk_u1 (h 0 _ rfl))).trans rfl)
theorem dk_2 {code : ByteArray} {pc : Nat} (h : DkAt code pc [2]) : decode code pc = .ok (.iconst (-1), 1) := dk_of ((dk_bind (dk_u1 (h 0 _ rfl))).trans rfl)
theorem dk_3 {code : ByteArray} {pc : Nat} (h : DkAt code pc [3]) : decode code pc = .ok (.iconst 0, 1) := dk_of ((dk_bind (dk_u1 (h 0 _ rfl))).trans rfl)
theorem dk_4 {code : ByteArray} {pc : Nat} (h : DkAt code pc [4]) : decode code pc = .ok (.iconst 1, 1) := dk_of ((dk_bind (dk_u1 (h 0 _ rfl))).trans rfl)
theorem dk_5 {code : ByteArray} {pc : Nat} (h : DkAt code pc [5]) : decode code pc = .ok (.iconst 2, 1) := dk_of ((dk_bind (dk_u1 (h 0 _ rfl))).trans rfl)
theorem dk_6 {code : ByteArray} {pc : Nat} (h : DkAt code pc [6]) : decode code pc = .ok (.iconst 3, 1) := dk_of ((dk_bind (dk_u1 (h 0 _ rfl))).trans rfl)
theorem dk_7 {code : ByteArray} {pc : Nat} (h : DkAt code pc [7]) : decode code pc = .ok (.iconst 4, 1) := dk_of ((dk_bind (dk_u1 (h 0 _ rfl))).trans rfl)
theorem dk_8 {code : ByteArray} {pc : Nat} (h : DkAt code pc [8]) : decode code pc = .ok (.iconst 5, 1) := dk_of ((dk_bind (dk_u1 (h 0 _ rfl))).trans rfl)
theorem dk_9 {code : ByteArray} {pc : Nat} (h : DkAt code pc [9]) : decode code pc = .ok (.lconst 0, 1) := dk_of ((dk_bind (dk_u1 (h 0 _ rfl))).trans rfl)
theorem dk_10 {code : ByteArray} {pc : Nat} (h : DkAt code pc [10]) : decode code pc = .ok (.lconst 1, 1) := dk_of ((dk_bind (dk_u1 (h 0 _ rfl))).trans rfl)
theorem dk_16 {code : ByteArray} {pc : Nat} (a : UInt8) (h : DkAt code pc [16, a]) : decode code pc = .ok (.bipush (Reader.signed 8 a.toNat), 2) := dk_of ((dk_bind (dk_u1 (h 0 _ rfl))).trans ((dk_bind (dk_map (dk_u1 (h 1 _ rfl)))).trans rfl))
theorem dk_17 {code : ByteArray} {pc : Nat} (a b : UInt8) (h : DkAt code pc [17, a, b]) : decode code pc = .ok (.sipush (Reader.signed 16 (a.toNat * 256 + b.toNat)), 3) := dk_of ((dk_bind (dk_u1 (h 0 _ rfl))).trans ((dk_bind (dk_map (dk_u2 (h 1 _ rfl) (h 2 _ rfl)))).trans rfl))
theorem dk_18 {code : ByteArray} {pc : Nat} (a : UInt8) (h : DkAt code pc [18, a]) : decode code pc = .ok (.ldc a.toNat, 2) := dk_of ((dk_bind (dk_u1 (h 0 _ rfl))).trans ((dk_bind (dk_u1 (h 1 _ rfl))).trans rfl))
theorem dk_19 {code : ByteArray} {pc : Nat} (a b : UInt8) (h : DkAt code pc [19, a, b]) : decode code pc = .ok (.ldc_w (a.toNat * 256 + b.toNat), 3) := dk_of ((dk_bind (dk_u1 (h 0 _ rfl))).trans ((dk_bind (dk_u2 (h 1 _ rfl) (h 2 _ rfl))).trans rfl))
theorem dk_20 {code : ByteArray} {pc : Nat} (a b : UInt8) (h : DkAt code pc [20, a, b]) : decode code pc = .ok (.ldc2_w (a.toNat * 256 + b.toNat), 3) := dk_of ((dk_bind (dk_u1 (h 0 _ rfl))).trans ((dk_bind (dk_u2 (h 1 _ rfl) (h 2 _ rfl))).trans rfl))
theorem dk_21 {code : ByteArray} {pc : Nat} (a : UInt8) (h : DkAt code pc [21, a]) : decode code pc = .ok (.iload a.toNat, 2) := dk_of ((dk_bind (dk_u1 (h 0 _ rfl))).trans ((dk_bind (dk_u1 (h 1 _ rfl))).trans rfl))
theorem dk_22 {code : ByteArray} {pc : Nat} (a : UInt8) (h : DkAt code pc [22, a]) : decode code pc = .ok (.lload a.toNat, 2) := dk_of ((dk_bind (dk_u1 (h 0 _ rfl))).trans ((dk_bind (dk_u1 (h 1 _ rfl))).trans rfl))
theorem dk_25 {code : ByteArray} {pc : Nat} (a : UInt8) (h : DkAt code pc [25, a]) : decode code pc = .ok (.aload a.toNat, 2) := dk_of ((dk_bind (dk_u1 (h 0 _ rfl))).trans ((dk_bind (dk_u1 (h 1 _ rfl))).trans rfl))
theorem dk_26 {code : ByteArray} {pc : Nat} (h : DkAt code pc [26]) : decode code pc = .ok (.iload_n 0, 1) := dk_of ((dk_bind (dk_u1 (h 0 _ rfl))).trans rfl)
theorem dk_27 {code : ByteArray} {pc : Nat} (h : DkAt code pc [27]) : decode code pc = .ok (.iload_n 1, 1) := dk_of ((dk_bind (dk_u1 (h 0 _ rfl))).trans rfl)
theorem dk_28 {code : ByteArray} {pc : Nat} (h : DkAt code pc [28]) : decode code pc = .ok (.iload_n 2, 1) := dk_of ((dk_bind (dk_u1 (h 0 _ rfl))).trans rfl)
theorem dk_29 {code : ByteArray} {pc : Nat} (h : DkAt code pc [29]) : decode code pc = .ok (.iload_n 3, 1) := dk_of ((dk_bind (dk_u1 (h 0 _ rfl))).trans rfl)
theorem dk_30 {code : ByteArray} {pc : Nat} (h : DkAt code pc [30]) : decode code pc = .ok (.lload_n 0, 1) := dk_of ((dk_bind (dk_u1 (h 0 _ rfl))).trans rfl)
theorem dk_31 {code : ByteArray} {pc : Nat} (h : DkAt code pc [31]) : decode code pc = .ok (.lload_n 1, 1) := dk_of ((dk_bind (dk_u1 (h 0 _ rfl))).trans rfl)
theorem dk_32 {code : ByteArray} {pc : Nat} (h : DkAt code pc [32]) : decode code pc = .ok (.lload_n 2, 1) := dk_of ((dk_bind (dk_u1 (h 0 _ rfl))).trans rfl)
theorem dk_33 {code : ByteArray} {pc : Nat} (h : DkAt code pc [33]) : decode code pc = .ok (.lload_n 3, 1) := dk_of ((dk_bind (dk_u1 (h 0 _ rfl))).trans rfl)
theorem dk_42 {code : ByteArray} {pc : Nat} (h : DkAt code pc [42]) : decode code pc = .ok (.aload_n 0, 1) := dk_of ((dk_bind (dk_u1 (h 0 _ rfl))).trans rfl)
theorem dk_43 {code : ByteArray} {pc : Nat} (h : DkAt code pc [43]) : decode code pc = .ok (.aload_n 1, 1) := dk_of ((dk_bind (dk_u1 (h 0 _ rfl))).trans rfl)
theorem dk_44 {code : ByteArray} {pc : Nat} (h : DkAt code pc [44]) : decode code pc = .ok (.aload_n 2, 1) := dk_of ((dk_bind (dk_u1 (h 0 _ rfl))).trans rfl)
theorem dk_45 {code : ByteArray} {pc : Nat} (h : DkAt code pc [45]) : decode code pc = .ok (.aload_n 3, 1) := dk_of ((dk_bind (dk_u1 (h 0 _ rfl))).trans rfl)
theorem dk_46 {code : ByteArray} {pc : Nat} (h : DkAt code pc [46]) : decode code pc = .ok (.iaload, 1) := dk_of ((dk_bind (dk_u1 (h 0 _ rfl))).trans rfl)
theorem dk_47 {code : ByteArray} {pc : Nat} (h : DkAt code pc [47]) : decode code pc = .ok (.laload, 1) := dk_of ((dk_bind (dk_u1 (h 0 _ rfl))).trans rfl)
theorem dk_50 {code : ByteArray} {pc : Nat} (h : DkAt code pc [50]) : decode code pc = .ok (.aaload, 1) := dk_of ((dk_bind (dk_u1 (h 0 _ rfl))).trans rfl)
theorem dk_51 {code : ByteArray} {pc : Nat} (h : DkAt code pc [51]) : decode code pc = .ok (.baload, 1) := dk_of ((dk_bind (dk_u1 (h 0 _ rfl))).trans rfl)
theorem dk_54 {code : ByteArray} {pc : Nat} (a : UInt8) (h : DkAt code pc [54, a]) : decode code pc = .ok (.istore a.toNat, 2) := dk_of ((dk_bind (dk_u1 (h 0 _ rfl))).trans ((dk_bind (dk_u1 (h 1 _ rfl))).trans rfl))
theorem dk_55 {code : ByteArray} {pc : Nat} (a : UInt8) (h : DkAt code pc [55, a]) : decode code pc = .ok (.lstore a.toNat, 2) := dk_of ((dk_bind (dk_u1 (h 0 _ rfl))).trans ((dk_bind (dk_u1 (h 1 _ rfl))).trans rfl))
theorem dk_58 {code : ByteArray} {pc : Nat} (a : UInt8) (h : DkAt code pc [58, a]) : decode code pc = .ok (.astore a.toNat, 2) := dk_of ((dk_bind (dk_u1 (h 0 _ rfl))).trans ((dk_bind (dk_u1 (h 1 _ rfl))).trans rfl))
theorem dk_59 {code : ByteArray} {pc : Nat} (h : DkAt code pc [59]) : decode code pc = .ok (.istore_n 0, 1) := dk_of ((dk_bind (dk_u1 (h 0 _ rfl))).trans rfl)
theorem dk_60 {code : ByteArray} {pc : Nat} (h : DkAt code pc [60]) : decode code pc = .ok (.istore_n 1, 1) := dk_of ((dk_bind (dk_u1 (h 0 _ rfl))).trans rfl)
theorem dk_61 {code : ByteArray} {pc : Nat} (h : DkAt code pc [61]) : decode code pc = .ok (.istore_n 2, 1) := dk_of ((dk_bind (dk_u1 (h 0 _ rfl))).trans rfl)
theorem dk_62 {code : ByteArray} {pc : Nat} (h : DkAt code pc [62]) : decode code pc = .ok (.istore_n 3, 1) := dk_of ((dk_bind (dk_u1 (h 0 _ rfl))).trans rfl)
theorem dk_64 {code : ByteArray} {pc : Nat} (h : DkAt code pc [64]) : decode code pc = .ok (.lstore_n 1, 1) := dk_of ((dk_bind (dk_u1 (h 0 _ rfl))).trans rfl)
theorem dk_65 {code : ByteArray} {pc : Nat} (h : DkAt code pc [65]) : decode code pc = .ok (.lstore_n 2, 1) := dk_of ((dk_bind (dk_u1 (h 0 _ rfl))).trans rfl)
theorem dk_66 {code : ByteArray} {pc : Nat} (h : DkAt code pc [66]) : decode code pc = .ok (.lstore_n 3, 1) := dk_of ((dk_bind (dk_u1 (h 0 _ rfl))).trans rfl)
theorem dk_76 {code : ByteArray} {pc : Nat} (h : DkAt code pc [76]) : decode code pc = .ok (.astore_n 1, 1) := dk_of ((dk_bind (dk_u1 (h 0 _ rfl))).trans rfl)
theorem dk_77 {code : ByteArray} {pc : Nat} (h : DkAt code pc [77]) : decode code pc = .ok (.astore_n 2, 1) := dk_of ((dk_bind (dk_u1 (h 0 _ rfl))).trans rfl)
theorem dk_78 {code : ByteArray} {pc : Nat} (h : DkAt code pc [78]) : decode code pc = .ok (.astore_n 3, 1) := dk_of ((dk_bind (dk_u1 (h 0 _ rfl))).trans rfl)
theorem dk_79 {code : ByteArray} {pc : Nat} (h : DkAt code pc [79]) : decode code pc = .ok (.iastore, 1) := dk_of ((dk_bind (dk_u1 (h 0 _ rfl))).trans rfl)
theorem dk_80 {code : ByteArray} {pc : Nat} (h : DkAt code pc [80]) : decode code pc = .ok (.lastore, 1) := dk_of ((dk_bind (dk_u1 (h 0 _ rfl))).trans rfl)
theorem dk_83 {code : ByteArray} {pc : Nat} (h : DkAt code pc [83]) : decode code pc = .ok (.aastore, 1) := dk_of ((dk_bind (dk_u1 (h 0 _ rfl))).trans rfl)
theorem dk_84 {code : ByteArray} {pc : Nat} (h : DkAt code pc [84]) : decode code pc = .ok (.bastore, 1) := dk_of ((dk_bind (dk_u1 (h 0 _ rfl))).trans rfl)
theorem dk_87 {code : ByteArray} {pc : Nat} (h : DkAt code pc [87]) : decode code pc = .ok (.pop, 1) := dk_of ((dk_bind (dk_u1 (h 0 _ rfl))).trans rfl)
theorem dk_89 {code : ByteArray} {pc : Nat} (h : DkAt code pc [89]) : decode code pc = .ok (.dup, 1) := dk_of ((dk_bind (dk_u1 (h 0 _ rfl))).trans rfl)
theorem dk_90 {code : ByteArray} {pc : Nat} (h : DkAt code pc [90]) : decode code pc = .ok (.dup_x1, 1) := dk_of ((dk_bind (dk_u1 (h 0 _ rfl))).trans rfl)
theorem dk_92 {code : ByteArray} {pc : Nat} (h : DkAt code pc [92]) : decode code pc = .ok (.dup2, 1) := dk_of ((dk_bind (dk_u1 (h 0 _ rfl))).trans rfl)
theorem dk_96 {code : ByteArray} {pc : Nat} (h : DkAt code pc [96]) : decode code pc = .ok (.iadd, 1) := dk_of ((dk_bind (dk_u1 (h 0 _ rfl))).trans rfl)
theorem dk_97 {code : ByteArray} {pc : Nat} (h : DkAt code pc [97]) : decode code pc = .ok (.ladd, 1) := dk_of ((dk_bind (dk_u1 (h 0 _ rfl))).trans rfl)
theorem dk_100 {code : ByteArray} {pc : Nat} (h : DkAt code pc [100]) : decode code pc = .ok (.isub, 1) := dk_of ((dk_bind (dk_u1 (h 0 _ rfl))).trans rfl)
theorem dk_101 {code : ByteArray} {pc : Nat} (h : DkAt code pc [101]) : decode code pc = .ok (.lsub, 1) := dk_of ((dk_bind (dk_u1 (h 0 _ rfl))).trans rfl)
theorem dk_104 {code : ByteArray} {pc : Nat} (h : DkAt code pc [104]) : decode code pc = .ok (.imul, 1) := dk_of ((dk_bind (dk_u1 (h 0 _ rfl))).trans rfl)
theorem dk_105 {code : ByteArray} {pc : Nat} (h : DkAt code pc [105]) : decode code pc = .ok (.lmul, 1) := dk_of ((dk_bind (dk_u1 (h 0 _ rfl))).trans rfl)
theorem dk_108 {code : ByteArray} {pc : Nat} (h : DkAt code pc [108]) : decode code pc = .ok (.idiv, 1) := dk_of ((dk_bind (dk_u1 (h 0 _ rfl))).trans rfl)
theorem dk_109 {code : ByteArray} {pc : Nat} (h : DkAt code pc [109]) : decode code pc = .ok (.ldiv, 1) := dk_of ((dk_bind (dk_u1 (h 0 _ rfl))).trans rfl)
theorem dk_112 {code : ByteArray} {pc : Nat} (h : DkAt code pc [112]) : decode code pc = .ok (.irem, 1) := dk_of ((dk_bind (dk_u1 (h 0 _ rfl))).trans rfl)
theorem dk_113 {code : ByteArray} {pc : Nat} (h : DkAt code pc [113]) : decode code pc = .ok (.lrem, 1) := dk_of ((dk_bind (dk_u1 (h 0 _ rfl))).trans rfl)
theorem dk_117 {code : ByteArray} {pc : Nat} (h : DkAt code pc [117]) : decode code pc = .ok (.lneg, 1) := dk_of ((dk_bind (dk_u1 (h 0 _ rfl))).trans rfl)
theorem dk_120 {code : ByteArray} {pc : Nat} (h : DkAt code pc [120]) : decode code pc = .ok (.ishl, 1) := dk_of ((dk_bind (dk_u1 (h 0 _ rfl))).trans rfl)
theorem dk_121 {code : ByteArray} {pc : Nat} (h : DkAt code pc [121]) : decode code pc = .ok (.lshl, 1) := dk_of ((dk_bind (dk_u1 (h 0 _ rfl))).trans rfl)
theorem dk_122 {code : ByteArray} {pc : Nat} (h : DkAt code pc [122]) : decode code pc = .ok (.ishr, 1) := dk_of ((dk_bind (dk_u1 (h 0 _ rfl))).trans rfl)
theorem dk_123 {code : ByteArray} {pc : Nat} (h : DkAt code pc [123]) : decode code pc = .ok (.lshr, 1) := dk_of ((dk_bind (dk_u1 (h 0 _ rfl))).trans rfl)
theorem dk_124 {code : ByteArray} {pc : Nat} (h : DkAt code pc [124]) : decode code pc = .ok (.iushr, 1) := dk_of ((dk_bind (dk_u1 (h 0 _ rfl))).trans rfl)
theorem dk_126 {code : ByteArray} {pc : Nat} (h : DkAt code pc [126]) : decode code pc = .ok (.iand, 1) := dk_of ((dk_bind (dk_u1 (h 0 _ rfl))).trans rfl)
theorem dk_127 {code : ByteArray} {pc : Nat} (h : DkAt code pc [127]) : decode code pc = .ok (.land, 1) := dk_of ((dk_bind (dk_u1 (h 0 _ rfl))).trans rfl)
theorem dk_128 {code : ByteArray} {pc : Nat} (h : DkAt code pc [128]) : decode code pc = .ok (.ior, 1) := dk_of ((dk_bind (dk_u1 (h 0 _ rfl))).trans rfl)
theorem dk_129 {code : ByteArray} {pc : Nat} (h : DkAt code pc [129]) : decode code pc = .ok (.lor, 1) := dk_of ((dk_bind (dk_u1 (h 0 _ rfl))).trans rfl)
theorem dk_132 {code : ByteArray} {pc : Nat} (a b : UInt8) (h : DkAt code pc [132, a, b]) : decode code pc = .ok (.iinc a.toNat (Reader.signed 8 b.toNat), 3) := dk_of ((dk_bind (dk_u1 (h 0 _ rfl))).trans ((dk_bind (dk_u1 (h 1 _ rfl))).trans ((dk_bind (dk_map (dk_u1 (h 2 _ rfl)))).trans rfl)))
theorem dk_133 {code : ByteArray} {pc : Nat} (h : DkAt code pc [133]) : decode code pc = .ok (.i2l, 1) := dk_of ((dk_bind (dk_u1 (h 0 _ rfl))).trans rfl)
theorem dk_136 {code : ByteArray} {pc : Nat} (h : DkAt code pc [136]) : decode code pc = .ok (.l2i, 1) := dk_of ((dk_bind (dk_u1 (h 0 _ rfl))).trans rfl)
theorem dk_145 {code : ByteArray} {pc : Nat} (h : DkAt code pc [145]) : decode code pc = .ok (.i2b, 1) := dk_of ((dk_bind (dk_u1 (h 0 _ rfl))).trans rfl)
theorem dk_146 {code : ByteArray} {pc : Nat} (h : DkAt code pc [146]) : decode code pc = .ok (.i2c, 1) := dk_of ((dk_bind (dk_u1 (h 0 _ rfl))).trans rfl)
theorem dk_148 {code : ByteArray} {pc : Nat} (h : DkAt code pc [148]) : decode code pc = .ok (.lcmp, 1) := dk_of ((dk_bind (dk_u1 (h 0 _ rfl))).trans rfl)
theorem dk_153 {code : ByteArray} {pc : Nat} (a b : UInt8) (h : DkAt code pc [153, a, b]) : decode code pc = .ok (.ifCond .eq (Reader.signed 16 (a.toNat * 256 + b.toNat)), 3) := dk_of ((dk_bind (dk_u1 (h 0 _ rfl))).trans ((dk_bind (dk_map (dk_u2 (h 1 _ rfl) (h 2 _ rfl)))).trans rfl))
theorem dk_154 {code : ByteArray} {pc : Nat} (a b : UInt8) (h : DkAt code pc [154, a, b]) : decode code pc = .ok (.ifCond .ne (Reader.signed 16 (a.toNat * 256 + b.toNat)), 3) := dk_of ((dk_bind (dk_u1 (h 0 _ rfl))).trans ((dk_bind (dk_map (dk_u2 (h 1 _ rfl) (h 2 _ rfl)))).trans rfl))
theorem dk_155 {code : ByteArray} {pc : Nat} (a b : UInt8) (h : DkAt code pc [155, a, b]) : decode code pc = .ok (.ifCond .lt (Reader.signed 16 (a.toNat * 256 + b.toNat)), 3) := dk_of ((dk_bind (dk_u1 (h 0 _ rfl))).trans ((dk_bind (dk_map (dk_u2 (h 1 _ rfl) (h 2 _ rfl)))).trans rfl))
theorem dk_156 {code : ByteArray} {pc : Nat} (a b : UInt8) (h : DkAt code pc [156, a, b]) : decode code pc = .ok (.ifCond .ge (Reader.signed 16 (a.toNat * 256 + b.toNat)), 3) := dk_of ((dk_bind (dk_u1 (h 0 _ rfl))).trans ((dk_bind (dk_map (dk_u2 (h 1 _ rfl) (h 2 _ rfl)))).trans rfl))
theorem dk_157 {code : ByteArray} {pc : Nat} (a b : UInt8) (h : DkAt code pc [157, a, b]) : decode code pc = .ok (.ifCond .gt (Reader.signed 16 (a.toNat * 256 + b.toNat)), 3) := dk_of ((dk_bind (dk_u1 (h 0 _ rfl))).trans ((dk_bind (dk_map (dk_u2 (h 1 _ rfl) (h 2 _ rfl)))).trans rfl))
theorem dk_158 {code : ByteArray} {pc : Nat} (a b : UInt8) (h : DkAt code pc [158, a, b]) : decode code pc = .ok (.ifCond .le (Reader.signed 16 (a.toNat * 256 + b.toNat)), 3) := dk_of ((dk_bind (dk_u1 (h 0 _ rfl))).trans ((dk_bind (dk_map (dk_u2 (h 1 _ rfl) (h 2 _ rfl)))).trans rfl))
theorem dk_159 {code : ByteArray} {pc : Nat} (a b : UInt8) (h : DkAt code pc [159, a, b]) : decode code pc = .ok (.if_icmp .eq (Reader.signed 16 (a.toNat * 256 + b.toNat)), 3) := dk_of ((dk_bind (dk_u1 (h 0 _ rfl))).trans ((dk_bind (dk_map (dk_u2 (h 1 _ rfl) (h 2 _ rfl)))).trans rfl))
theorem dk_160 {code : ByteArray} {pc : Nat} (a b : UInt8) (h : DkAt code pc [160, a, b]) : decode code pc = .ok (.if_icmp .ne (Reader.signed 16 (a.toNat * 256 + b.toNat)), 3) := dk_of ((dk_bind (dk_u1 (h 0 _ rfl))).trans ((dk_bind (dk_map (dk_u2 (h 1 _ rfl) (h 2 _ rfl)))).trans rfl))
theorem dk_161 {code : ByteArray} {pc : Nat} (a b : UInt8) (h : DkAt code pc [161, a, b]) : decode code pc = .ok (.if_icmp .lt (Reader.signed 16 (a.toNat * 256 + b.toNat)), 3) := dk_of ((dk_bind (dk_u1 (h 0 _ rfl))).trans ((dk_bind (dk_map (dk_u2 (h 1 _ rfl) (h 2 _ rfl)))).trans rfl))
theorem dk_162 {code : ByteArray} {pc : Nat} (a b : UInt8) (h : DkAt code pc [162, a, b]) : decode code pc = .ok (.if_icmp .ge (Reader.signed 16 (a.toNat * 256 + b.toNat)), 3) := dk_of ((dk_bind (dk_u1 (h 0 _ rfl))).trans ((dk_bind (dk_map (dk_u2 (h 1 _ rfl) (h 2 _ rfl)))).trans rfl))
theorem dk_163 {code : ByteArray} {pc : Nat} (a b : UInt8) (h : DkAt code pc [163, a, b]) : decode code pc = .ok (.if_icmp .gt (Reader.signed 16 (a.toNat * 256 + b.toNat)), 3) := dk_of ((dk_bind (dk_u1 (h 0 _ rfl))).trans ((dk_bind (dk_map (dk_u2 (h 1 _ rfl) (h 2 _ rfl)))).trans rfl))
theorem dk_164 {code : ByteArray} {pc : Nat} (a b : UInt8) (h : DkAt code pc [164, a, b]) : decode code pc = .ok (.if_icmp .le (Reader.signed 16 (a.toNat * 256 + b.toNat)), 3) := dk_of ((dk_bind (dk_u1 (h 0 _ rfl))).trans ((dk_bind (dk_map (dk_u2 (h 1 _ rfl) (h 2 _ rfl)))).trans rfl))
theorem dk_165 {code : ByteArray} {pc : Nat} (a b : UInt8) (h : DkAt code pc [165, a, b]) : decode code pc = .ok (.if_acmp .eq (Reader.signed 16 (a.toNat * 256 + b.toNat)), 3) := dk_of ((dk_bind (dk_u1 (h 0 _ rfl))).trans ((dk_bind (dk_map (dk_u2 (h 1 _ rfl) (h 2 _ rfl)))).trans rfl))
theorem dk_166 {code : ByteArray} {pc : Nat} (a b : UInt8) (h : DkAt code pc [166, a, b]) : decode code pc = .ok (.if_acmp .ne (Reader.signed 16 (a.toNat * 256 + b.toNat)), 3) := dk_of ((dk_bind (dk_u1 (h 0 _ rfl))).trans ((dk_bind (dk_map (dk_u2 (h 1 _ rfl) (h 2 _ rfl)))).trans rfl))
theorem dk_167 {code : ByteArray} {pc : Nat} (a b : UInt8) (h : DkAt code pc [167, a, b]) : decode code pc = .ok (.goto (Reader.signed 16 (a.toNat * 256 + b.toNat)), 3) := dk_of ((dk_bind (dk_u1 (h 0 _ rfl))).trans ((dk_bind (dk_map (dk_u2 (h 1 _ rfl) (h 2 _ rfl)))).trans rfl))
theorem dk_172 {code : ByteArray} {pc : Nat} (h : DkAt code pc [172]) : decode code pc = .ok (.ireturn, 1) := dk_of ((dk_bind (dk_u1 (h 0 _ rfl))).trans rfl)
theorem dk_173 {code : ByteArray} {pc : Nat} (h : DkAt code pc [173]) : decode code pc = .ok (.lreturn, 1) := dk_of ((dk_bind (dk_u1 (h 0 _ rfl))).trans rfl)
theorem dk_176 {code : ByteArray} {pc : Nat} (h : DkAt code pc [176]) : decode code pc = .ok (.areturn, 1) := dk_of ((dk_bind (dk_u1 (h 0 _ rfl))).trans rfl)
theorem dk_177 {code : ByteArray} {pc : Nat} (h : DkAt code pc [177]) : decode code pc = .ok (.return_, 1) := dk_of ((dk_bind (dk_u1 (h 0 _ rfl))).trans rfl)
theorem dk_178 {code : ByteArray} {pc : Nat} (a b : UInt8) (h : DkAt code pc [178, a, b]) : decode code pc = .ok (.getstatic (a.toNat * 256 + b.toNat), 3) := dk_of ((dk_bind (dk_u1 (h 0 _ rfl))).trans ((dk_bind (dk_u2 (h 1 _ rfl) (h 2 _ rfl))).trans rfl))
theorem dk_180 {code : ByteArray} {pc : Nat} (a b : UInt8) (h : DkAt code pc [180, a, b]) : decode code pc = .ok (.getfield (a.toNat * 256 + b.toNat), 3) := dk_of ((dk_bind (dk_u1 (h 0 _ rfl))).trans ((dk_bind (dk_u2 (h 1 _ rfl) (h 2 _ rfl))).trans rfl))
theorem dk_181 {code : ByteArray} {pc : Nat} (a b : UInt8) (h : DkAt code pc [181, a, b]) : decode code pc = .ok (.putfield (a.toNat * 256 + b.toNat), 3) := dk_of ((dk_bind (dk_u1 (h 0 _ rfl))).trans ((dk_bind (dk_u2 (h 1 _ rfl) (h 2 _ rfl))).trans rfl))
theorem dk_182 {code : ByteArray} {pc : Nat} (a b : UInt8) (h : DkAt code pc [182, a, b]) : decode code pc = .ok (.invokevirtual (a.toNat * 256 + b.toNat), 3) := dk_of ((dk_bind (dk_u1 (h 0 _ rfl))).trans ((dk_bind (dk_u2 (h 1 _ rfl) (h 2 _ rfl))).trans rfl))
theorem dk_183 {code : ByteArray} {pc : Nat} (a b : UInt8) (h : DkAt code pc [183, a, b]) : decode code pc = .ok (.invokespecial (a.toNat * 256 + b.toNat), 3) := dk_of ((dk_bind (dk_u1 (h 0 _ rfl))).trans ((dk_bind (dk_u2 (h 1 _ rfl) (h 2 _ rfl))).trans rfl))
theorem dk_184 {code : ByteArray} {pc : Nat} (a b : UInt8) (h : DkAt code pc [184, a, b]) : decode code pc = .ok (.invokestatic (a.toNat * 256 + b.toNat), 3) := dk_of ((dk_bind (dk_u1 (h 0 _ rfl))).trans ((dk_bind (dk_u2 (h 1 _ rfl) (h 2 _ rfl))).trans rfl))
theorem dk_187 {code : ByteArray} {pc : Nat} (a b : UInt8) (h : DkAt code pc [187, a, b]) : decode code pc = .ok (.new (a.toNat * 256 + b.toNat), 3) := dk_of ((dk_bind (dk_u1 (h 0 _ rfl))).trans ((dk_bind (dk_u2 (h 1 _ rfl) (h 2 _ rfl))).trans rfl))
theorem dk_188_4 {code : ByteArray} {pc : Nat} (h : DkAt code pc [188, 4]) : decode code pc = .ok (.newarray .boolean, 2) := dk_of ((dk_bind (dk_u1 (h 0 _ rfl))).trans ((dk_bind (dk_u1 (h 1 _ rfl))).trans rfl))
theorem dk_188_8 {code : ByteArray} {pc : Nat} (h : DkAt code pc [188, 8]) : decode code pc = .ok (.newarray .byte, 2) := dk_of ((dk_bind (dk_u1 (h 0 _ rfl))).trans ((dk_bind (dk_u1 (h 1 _ rfl))).trans rfl))
theorem dk_188_10 {code : ByteArray} {pc : Nat} (h : DkAt code pc [188, 10]) : decode code pc = .ok (.newarray .int, 2) := dk_of ((dk_bind (dk_u1 (h 0 _ rfl))).trans ((dk_bind (dk_u1 (h 1 _ rfl))).trans rfl))
theorem dk_188_11 {code : ByteArray} {pc : Nat} (h : DkAt code pc [188, 11]) : decode code pc = .ok (.newarray .long, 2) := dk_of ((dk_bind (dk_u1 (h 0 _ rfl))).trans ((dk_bind (dk_u1 (h 1 _ rfl))).trans rfl))
theorem dk_189 {code : ByteArray} {pc : Nat} (a b : UInt8) (h : DkAt code pc [189, a, b]) : decode code pc = .ok (.anewarray (a.toNat * 256 + b.toNat), 3) := dk_of ((dk_bind (dk_u1 (h 0 _ rfl))).trans ((dk_bind (dk_u2 (h 1 _ rfl) (h 2 _ rfl))).trans rfl))
theorem dk_190 {code : ByteArray} {pc : Nat} (h : DkAt code pc [190]) : decode code pc = .ok (.arraylength, 1) := dk_of ((dk_bind (dk_u1 (h 0 _ rfl))).trans rfl)
theorem dk_191 {code : ByteArray} {pc : Nat} (h : DkAt code pc [191]) : decode code pc = .ok (.athrow, 1) := dk_of ((dk_bind (dk_u1 (h 0 _ rfl))).trans rfl)
theorem dk_192 {code : ByteArray} {pc : Nat} (a b : UInt8) (h : DkAt code pc [192, a, b]) : decode code pc = .ok (.checkcast (a.toNat * 256 + b.toNat), 3) := dk_of ((dk_bind (dk_u1 (h 0 _ rfl))).trans ((dk_bind (dk_u2 (h 1 _ rfl) (h 2 _ rfl))).trans rfl))
theorem dk_199 {code : ByteArray} {pc : Nat} (a b : UInt8) (h : DkAt code pc [199, a, b]) : decode code pc = .ok (.ifnonnull (Reader.signed 16 (a.toNat * 256 + b.toNat)), 3) := dk_of ((dk_bind (dk_u1 (h 0 _ rfl))).trans ((dk_bind (dk_map (dk_u2 (h 1 _ rfl) (h 2 _ rfl)))).trans rfl))

theorem z1_tk {T : zT} {κ e tag : Nat} {x : Nat × Nat} (h0 : (T κ).1 = 0) (h : (T e).1 = tag) (ht : tag ≠ 0) : ((z1 T κ x) e).1 = tag := by
  rw [z1_n (fun q => ht (by rw [← h, q]; exact h0))]
  exact h
theorem z1_tp {T : zT} {κ e tag n : Nat} {x : Nat × Nat} (h0 : (T κ).1 = 0) (h : T e = (tag, n)) (ht : tag ≠ 0) : (z1 T κ x) e = (tag, n) := by
  rw [z1_n (fun q => ht (by have := congrArg Prod.fst h; rw [q, h0] at this; exact this.symm))]
  exact h
theorem z1_ne {T : zT} {κ e tag : Nat} (h0 : (T κ).1 = 0) (h : (T e).1 = tag + 1) : e ≠ κ := fun q => by rw [q, h0] at h; omega
theorem zpair {p : Nat × Nat} {tag : Nat} (h : p.1 = tag) : p = (tag, p.2) := by rw [← h]
theorem zix {α : Type} {f : Nat → α} {i : Int32} {k : Nat} {v : α} (h : i.toNatClampNeg = k) (e : f k = v) : f i.toNatClampNeg = v := by rw [h]; exact e
theorem zinc {x v : Int32} {n : Int} (h : Int32.ofInt n = v) : x + Int32.ofInt n = x + v := by rw [h]
theorem zin {i : Int32} {n : Nat} (h : ¬ (i < 0 ∨ n ≤ i.toNatClampNeg)) : vp_in i n := h
theorem zcon40 {κ : Nat} (h : 10 ≤ κ ∧ κ < 35) : 50 ≤ κ + 40 ∧ κ + 40 < 75 := by omega
def zB (x : Int32) : Prop := x = 0 ∨ x = 1
theorem zB_n {x : Int32} (h : zB x) : narrow .boolean (.int x) = .int x := by rcases h with h | h <;> rw [h] <;> decide
theorem zB_f {x : Int32} (h : zB x) : fits .boolean (.int x) = true := by rcases h with h | h <;> rw [h] <;> decide
theorem zsw_ne {x k : Int32} (h : ¬ x = k) : x.toInt ≠ k.toInt := fun q => h (Int32.toInt_inj.mp q)
theorem zsw_n {x k : Int32} (z : Int) (hz : k.toInt = z) (h : ¬ x = k) : x.toInt ≠ z := by rw [← hz]; exact zsw_ne h
theorem ztabOut {x : Int32} {lo hi : Int} (hlh : lo ≤ hi) (h : ∀ k : Int, lo ≤ k → k ≤ hi → x.toInt ≠ k) : x.toInt < lo ∨ hi < x.toInt := by
  rcases Int.lt_or_le x.toInt lo with q | q
  · exact Or.inl q
  · rcases Int.lt_or_le hi x.toInt with q2 | q2
    · exact Or.inr q2
    · exact absurd rfl (h _ q q2)
theorem zin0 {C : String} : ∀ w ∈ u_ws C zt0 0, w ∈ lw_all := fun w h => by cases h
theorem zl_0 : Int64.ofNat ((0 : Fin 2) : Nat) = 0 := by decide
theorem zl_1 : Int64.ofNat ((1 : Fin 2) : Nat) = 1 := by decide
theorem lw_U {own : String} {idx : Nat} {C owner : String} {x y : MethodName} {b : ByteArray} {L : Nat} {r : Option FieldType} (h1 : Cond.methodLink own idx x ∈ lw_all) (h2 : Cond.sameMethod x.cls owner x.name x.desc ∈ lw_all) (h3 : Cond.selects C x y ∈ lw_all) (h4 : Cond.instanceMethod y ∈ lw_all) (h5 : Cond.initialized y.cls ∈ lw_all) (h6 : Cond.code y b L r ∈ lw_all) : GoodIn lw_all (va_wsU own idx C owner x y (ws_ y b L r)) := by
  refine lw_app ?_ (lw_meth h6)
  intro w hw
  simp only [List.mem_cons, List.not_mem_nil, or_false] at hw
  rcases hw with e | e | e | e | e
  · rw [e]; exact h1
  · rw [e]; exact h2
  · rw [e]; exact h3
  · rw [e]; exact h4
  · rw [e]; exact h5
theorem lw_SU {own : String} {idx : Nat} {y : MethodName} {b : ByteArray} {L : Nat} {r : Option FieldType} (h1 : Cond.methodLink own idx y ∈ lw_all) (h2 : Cond.sameMethod y.cls y.cls y.name y.desc ∈ lw_all) (h3 : Cond.superclass own y.cls ∈ lw_all) (h4 : Cond.instanceMethod y ∈ lw_all) (h5 : Cond.initialized y.cls ∈ lw_all) (h6 : Cond.code y b L r ∈ lw_all) : GoodIn lw_all (va_wsSU own idx y (ws_ y b L r)) := by
  refine lw_app ?_ (lw_meth h6)
  intro w hw
  simp only [List.mem_cons, List.not_mem_nil, or_false] at hw
  rcases hw with e | e | e | e | e
  · rw [e]; exact h1
  · rw [e]; exact h2
  · rw [e]; exact h3
  · rw [e]; exact h4
  · rw [e]; exact h5
theorem zi_m8 : Int32.ofInt (-8) = (-8 : Int32) := by decide
theorem zi_m1 : Int32.ofInt (-1) = (-1 : Int32) := by decide
theorem zi_0 : Int32.ofInt (0) = (0 : Int32) := by decide
theorem zi_1 : Int32.ofInt (1) = (1 : Int32) := by decide
theorem zi_2 : Int32.ofInt (2) = (2 : Int32) := by decide
theorem zi_3 : Int32.ofInt (3) = (3 : Int32) := by decide
theorem zi_4 : Int32.ofInt (4) = (4 : Int32) := by decide
theorem zi_5 : Int32.ofInt (5) = (5 : Int32) := by decide
theorem zi_6 : Int32.ofInt (6) = (6 : Int32) := by decide
theorem zb8_m3 : (Int8.ofInt (-3)).toInt32 = (-3 : Int32) := by decide
theorem zb8_m2 : (Int8.ofInt (-2)).toInt32 = (-2 : Int32) := by decide
theorem zb8_6 : (Int8.ofInt (6)).toInt32 = (6 : Int32) := by decide
theorem zb8_7 : (Int8.ofInt (7)).toInt32 = (7 : Int32) := by decide
theorem zb8_8 : (Int8.ofInt (8)).toInt32 = (8 : Int32) := by decide
theorem zb8_9 : (Int8.ofInt (9)).toInt32 = (9 : Int32) := by decide
theorem zb8_10 : (Int8.ofInt (10)).toInt32 = (10 : Int32) := by decide
theorem zb8_11 : (Int8.ofInt (11)).toInt32 = (11 : Int32) := by decide
theorem zb8_12 : (Int8.ofInt (12)).toInt32 = (12 : Int32) := by decide
theorem zb8_13 : (Int8.ofInt (13)).toInt32 = (13 : Int32) := by decide
theorem zb8_14 : (Int8.ofInt (14)).toInt32 = (14 : Int32) := by decide
theorem zb8_15 : (Int8.ofInt (15)).toInt32 = (15 : Int32) := by decide
theorem zb8_16 : (Int8.ofInt (16)).toInt32 = (16 : Int32) := by decide
theorem zb8_17 : (Int8.ofInt (17)).toInt32 = (17 : Int32) := by decide
theorem zb8_18 : (Int8.ofInt (18)).toInt32 = (18 : Int32) := by decide
theorem zb8_19 : (Int8.ofInt (19)).toInt32 = (19 : Int32) := by decide
theorem zb8_20 : (Int8.ofInt (20)).toInt32 = (20 : Int32) := by decide
theorem zb8_21 : (Int8.ofInt (21)).toInt32 = (21 : Int32) := by decide
theorem zb8_22 : (Int8.ofInt (22)).toInt32 = (22 : Int32) := by decide
theorem zb8_23 : (Int8.ofInt (23)).toInt32 = (23 : Int32) := by decide
theorem zb8_24 : (Int8.ofInt (24)).toInt32 = (24 : Int32) := by decide
theorem zb8_25 : (Int8.ofInt (25)).toInt32 = (25 : Int32) := by decide
theorem zb8_26 : (Int8.ofInt (26)).toInt32 = (26 : Int32) := by decide
theorem zb8_27 : (Int8.ofInt (27)).toInt32 = (27 : Int32) := by decide
theorem zb8_28 : (Int8.ofInt (28)).toInt32 = (28 : Int32) := by decide
theorem zb8_29 : (Int8.ofInt (29)).toInt32 = (29 : Int32) := by decide
theorem zb8_30 : (Int8.ofInt (30)).toInt32 = (30 : Int32) := by decide
theorem zb8_31 : (Int8.ofInt (31)).toInt32 = (31 : Int32) := by decide
theorem zb8_32 : (Int8.ofInt (32)).toInt32 = (32 : Int32) := by decide
theorem zb8_33 : (Int8.ofInt (33)).toInt32 = (33 : Int32) := by decide
theorem zb8_34 : (Int8.ofInt (34)).toInt32 = (34 : Int32) := by decide
theorem zb8_35 : (Int8.ofInt (35)).toInt32 = (35 : Int32) := by decide
theorem zb8_36 : (Int8.ofInt (36)).toInt32 = (36 : Int32) := by decide
theorem zb8_37 : (Int8.ofInt (37)).toInt32 = (37 : Int32) := by decide
theorem zb8_38 : (Int8.ofInt (38)).toInt32 = (38 : Int32) := by decide
theorem zb8_39 : (Int8.ofInt (39)).toInt32 = (39 : Int32) := by decide
theorem zb8_40 : (Int8.ofInt (40)).toInt32 = (40 : Int32) := by decide
theorem zb8_41 : (Int8.ofInt (41)).toInt32 = (41 : Int32) := by decide
theorem zb8_42 : (Int8.ofInt (42)).toInt32 = (42 : Int32) := by decide
theorem zb8_43 : (Int8.ofInt (43)).toInt32 = (43 : Int32) := by decide
theorem zb8_44 : (Int8.ofInt (44)).toInt32 = (44 : Int32) := by decide
theorem zb8_45 : (Int8.ofInt (45)).toInt32 = (45 : Int32) := by decide
theorem zb8_46 : (Int8.ofInt (46)).toInt32 = (46 : Int32) := by decide
theorem zb8_47 : (Int8.ofInt (47)).toInt32 = (47 : Int32) := by decide
theorem zb8_48 : (Int8.ofInt (48)).toInt32 = (48 : Int32) := by decide
theorem zb8_49 : (Int8.ofInt (49)).toInt32 = (49 : Int32) := by decide
theorem zb8_50 : (Int8.ofInt (50)).toInt32 = (50 : Int32) := by decide
theorem zb8_51 : (Int8.ofInt (51)).toInt32 = (51 : Int32) := by decide
theorem zb8_52 : (Int8.ofInt (52)).toInt32 = (52 : Int32) := by decide
theorem zb8_53 : (Int8.ofInt (53)).toInt32 = (53 : Int32) := by decide
theorem zb8_54 : (Int8.ofInt (54)).toInt32 = (54 : Int32) := by decide
theorem zb8_55 : (Int8.ofInt (55)).toInt32 = (55 : Int32) := by decide
theorem zb8_56 : (Int8.ofInt (56)).toInt32 = (56 : Int32) := by decide
theorem zb8_57 : (Int8.ofInt (57)).toInt32 = (57 : Int32) := by decide
theorem zb8_58 : (Int8.ofInt (58)).toInt32 = (58 : Int32) := by decide
theorem zb8_59 : (Int8.ofInt (59)).toInt32 = (59 : Int32) := by decide
theorem zb8_60 : (Int8.ofInt (60)).toInt32 = (60 : Int32) := by decide
theorem zb8_61 : (Int8.ofInt (61)).toInt32 = (61 : Int32) := by decide
theorem zb8_62 : (Int8.ofInt (62)).toInt32 = (62 : Int32) := by decide
theorem zb8_63 : (Int8.ofInt (63)).toInt32 = (63 : Int32) := by decide
theorem zb8_64 : (Int8.ofInt (64)).toInt32 = (64 : Int32) := by decide
theorem zb8_65 : (Int8.ofInt (65)).toInt32 = (65 : Int32) := by decide
theorem zb8_66 : (Int8.ofInt (66)).toInt32 = (66 : Int32) := by decide
theorem zb8_67 : (Int8.ofInt (67)).toInt32 = (67 : Int32) := by decide
theorem zb8_68 : (Int8.ofInt (68)).toInt32 = (68 : Int32) := by decide
theorem zb8_69 : (Int8.ofInt (69)).toInt32 = (69 : Int32) := by decide
theorem zb8_70 : (Int8.ofInt (70)).toInt32 = (70 : Int32) := by decide
theorem zb8_71 : (Int8.ofInt (71)).toInt32 = (71 : Int32) := by decide
theorem zb8_72 : (Int8.ofInt (72)).toInt32 = (72 : Int32) := by decide
theorem zb8_73 : (Int8.ofInt (73)).toInt32 = (73 : Int32) := by decide
theorem zb8_74 : (Int8.ofInt (74)).toInt32 = (74 : Int32) := by decide
theorem zb8_75 : (Int8.ofInt (75)).toInt32 = (75 : Int32) := by decide
theorem zb8_76 : (Int8.ofInt (76)).toInt32 = (76 : Int32) := by decide
theorem zb8_77 : (Int8.ofInt (77)).toInt32 = (77 : Int32) := by decide
theorem zb8_78 : (Int8.ofInt (78)).toInt32 = (78 : Int32) := by decide
theorem zb8_79 : (Int8.ofInt (79)).toInt32 = (79 : Int32) := by decide
theorem zb8_80 : (Int8.ofInt (80)).toInt32 = (80 : Int32) := by decide
theorem zb8_81 : (Int8.ofInt (81)).toInt32 = (81 : Int32) := by decide
theorem zb8_82 : (Int8.ofInt (82)).toInt32 = (82 : Int32) := by decide
theorem zb8_83 : (Int8.ofInt (83)).toInt32 = (83 : Int32) := by decide
theorem zb8_84 : (Int8.ofInt (84)).toInt32 = (84 : Int32) := by decide
theorem zb8_85 : (Int8.ofInt (85)).toInt32 = (85 : Int32) := by decide
theorem zb8_86 : (Int8.ofInt (86)).toInt32 = (86 : Int32) := by decide
theorem zb8_87 : (Int8.ofInt (87)).toInt32 = (87 : Int32) := by decide
theorem zb8_88 : (Int8.ofInt (88)).toInt32 = (88 : Int32) := by decide
theorem zb8_89 : (Int8.ofInt (89)).toInt32 = (89 : Int32) := by decide
theorem zb8_90 : (Int8.ofInt (90)).toInt32 = (90 : Int32) := by decide
theorem zb8_91 : (Int8.ofInt (91)).toInt32 = (91 : Int32) := by decide
theorem zb8_92 : (Int8.ofInt (92)).toInt32 = (92 : Int32) := by decide
theorem zb8_93 : (Int8.ofInt (93)).toInt32 = (93 : Int32) := by decide
theorem zb8_94 : (Int8.ofInt (94)).toInt32 = (94 : Int32) := by decide
theorem zb8_95 : (Int8.ofInt (95)).toInt32 = (95 : Int32) := by decide
theorem zb8_96 : (Int8.ofInt (96)).toInt32 = (96 : Int32) := by decide
theorem zb8_97 : (Int8.ofInt (97)).toInt32 = (97 : Int32) := by decide
theorem zb8_98 : (Int8.ofInt (98)).toInt32 = (98 : Int32) := by decide
theorem zb8_99 : (Int8.ofInt (99)).toInt32 = (99 : Int32) := by decide
theorem zb8_100 : (Int8.ofInt (100)).toInt32 = (100 : Int32) := by decide
theorem zb8_101 : (Int8.ofInt (101)).toInt32 = (101 : Int32) := by decide
theorem zb8_102 : (Int8.ofInt (102)).toInt32 = (102 : Int32) := by decide
theorem zb8_103 : (Int8.ofInt (103)).toInt32 = (103 : Int32) := by decide
theorem zb8_104 : (Int8.ofInt (104)).toInt32 = (104 : Int32) := by decide
theorem zb8_105 : (Int8.ofInt (105)).toInt32 = (105 : Int32) := by decide
theorem zb8_106 : (Int8.ofInt (106)).toInt32 = (106 : Int32) := by decide
theorem zb8_107 : (Int8.ofInt (107)).toInt32 = (107 : Int32) := by decide
theorem zb8_108 : (Int8.ofInt (108)).toInt32 = (108 : Int32) := by decide
theorem zb8_109 : (Int8.ofInt (109)).toInt32 = (109 : Int32) := by decide
theorem zb8_110 : (Int8.ofInt (110)).toInt32 = (110 : Int32) := by decide
theorem zb8_111 : (Int8.ofInt (111)).toInt32 = (111 : Int32) := by decide
theorem zb8_112 : (Int8.ofInt (112)).toInt32 = (112 : Int32) := by decide
theorem zb8_113 : (Int8.ofInt (113)).toInt32 = (113 : Int32) := by decide
theorem zb8_114 : (Int8.ofInt (114)).toInt32 = (114 : Int32) := by decide
theorem zb8_115 : (Int8.ofInt (115)).toInt32 = (115 : Int32) := by decide
theorem zb8_116 : (Int8.ofInt (116)).toInt32 = (116 : Int32) := by decide
theorem zb8_117 : (Int8.ofInt (117)).toInt32 = (117 : Int32) := by decide
theorem zb8_118 : (Int8.ofInt (118)).toInt32 = (118 : Int32) := by decide
theorem zb8_119 : (Int8.ofInt (119)).toInt32 = (119 : Int32) := by decide
theorem zb8_120 : (Int8.ofInt (120)).toInt32 = (120 : Int32) := by decide
theorem zb8_121 : (Int8.ofInt (121)).toInt32 = (121 : Int32) := by decide
theorem zb8_122 : (Int8.ofInt (122)).toInt32 = (122 : Int32) := by decide
theorem zb8_123 : (Int8.ofInt (123)).toInt32 = (123 : Int32) := by decide
theorem zb8_124 : (Int8.ofInt (124)).toInt32 = (124 : Int32) := by decide
theorem zb8_125 : (Int8.ofInt (125)).toInt32 = (125 : Int32) := by decide
theorem zb8_126 : (Int8.ofInt (126)).toInt32 = (126 : Int32) := by decide
theorem zb8_127 : (Int8.ofInt (127)).toInt32 = (127 : Int32) := by decide
theorem zb16_128 : (Int16.ofInt (128)).toInt32 = (128 : Int32) := by decide
theorem zb16_129 : (Int16.ofInt (129)).toInt32 = (129 : Int32) := by decide
theorem zb16_144 : (Int16.ofInt (144)).toInt32 = (144 : Int32) := by decide
theorem zb16_255 : (Int16.ofInt (255)).toInt32 = (255 : Int32) := by decide
theorem zb16_256 : (Int16.ofInt (256)).toInt32 = (256 : Int32) := by decide
theorem zb16_257 : (Int16.ofInt (257)).toInt32 = (257 : Int32) := by decide
theorem zb16_258 : (Int16.ofInt (258)).toInt32 = (258 : Int32) := by decide
theorem zb16_499 : (Int16.ofInt (499)).toInt32 = (499 : Int32) := by decide
theorem zb16_500 : (Int16.ofInt (500)).toInt32 = (500 : Int32) := by decide
theorem zb16_501 : (Int16.ofInt (501)).toInt32 = (501 : Int32) := by decide
theorem zb16_800 : (Int16.ofInt (800)).toInt32 = (800 : Int32) := by decide
theorem zb16_949 : (Int16.ofInt (949)).toInt32 = (949 : Int32) := by decide
theorem zb16_999 : (Int16.ofInt (999)).toInt32 = (999 : Int32) := by decide
theorem zb16_9999 : (Int16.ofInt (9999)).toInt32 = (9999 : Int32) := by decide
theorem zb16_12345 : (Int16.ofInt (12345)).toInt32 = (12345 : Int32) := by decide
theorem zn_0 : (0 : Int32).toNatClampNeg = 0 := by decide
theorem zn_1 : (1 : Int32).toNatClampNeg = 1 := by decide
theorem zn_2 : (2 : Int32).toNatClampNeg = 2 := by decide
theorem zn_3 : (3 : Int32).toNatClampNeg = 3 := by decide
theorem zn_4 : (4 : Int32).toNatClampNeg = 4 := by decide
theorem zn_5 : (5 : Int32).toNatClampNeg = 5 := by decide
theorem zn_6 : (6 : Int32).toNatClampNeg = 6 := by decide
theorem zn_7 : (7 : Int32).toNatClampNeg = 7 := by decide
theorem zn_8 : (8 : Int32).toNatClampNeg = 8 := by decide
theorem zn_9 : (9 : Int32).toNatClampNeg = 9 := by decide
theorem zn_10 : (10 : Int32).toNatClampNeg = 10 := by decide
theorem zn_11 : (11 : Int32).toNatClampNeg = 11 := by decide
theorem zn_12 : (12 : Int32).toNatClampNeg = 12 := by decide
theorem zn_13 : (13 : Int32).toNatClampNeg = 13 := by decide
theorem zn_14 : (14 : Int32).toNatClampNeg = 14 := by decide
theorem zn_15 : (15 : Int32).toNatClampNeg = 15 := by decide
theorem zn_16 : (16 : Int32).toNatClampNeg = 16 := by decide
theorem zn_17 : (17 : Int32).toNatClampNeg = 17 := by decide
theorem zn_18 : (18 : Int32).toNatClampNeg = 18 := by decide
theorem zn_19 : (19 : Int32).toNatClampNeg = 19 := by decide
theorem zn_20 : (20 : Int32).toNatClampNeg = 20 := by decide
theorem zn_21 : (21 : Int32).toNatClampNeg = 21 := by decide
theorem zn_22 : (22 : Int32).toNatClampNeg = 22 := by decide
theorem zn_23 : (23 : Int32).toNatClampNeg = 23 := by decide
theorem zn_24 : (24 : Int32).toNatClampNeg = 24 := by decide
theorem zn_25 : (25 : Int32).toNatClampNeg = 25 := by decide
theorem zn_26 : (26 : Int32).toNatClampNeg = 26 := by decide
theorem zn_27 : (27 : Int32).toNatClampNeg = 27 := by decide
theorem zn_28 : (28 : Int32).toNatClampNeg = 28 := by decide
theorem zn_29 : (29 : Int32).toNatClampNeg = 29 := by decide
theorem zn_30 : (30 : Int32).toNatClampNeg = 30 := by decide
theorem zn_31 : (31 : Int32).toNatClampNeg = 31 := by decide
theorem zn_32 : (32 : Int32).toNatClampNeg = 32 := by decide
theorem zn_33 : (33 : Int32).toNatClampNeg = 33 := by decide
theorem zn_34 : (34 : Int32).toNatClampNeg = 34 := by decide
theorem zn_35 : (35 : Int32).toNatClampNeg = 35 := by decide
theorem zn_36 : (36 : Int32).toNatClampNeg = 36 := by decide
theorem zn_37 : (37 : Int32).toNatClampNeg = 37 := by decide
theorem zn_38 : (38 : Int32).toNatClampNeg = 38 := by decide
theorem zn_39 : (39 : Int32).toNatClampNeg = 39 := by decide
theorem zn_40 : (40 : Int32).toNatClampNeg = 40 := by decide
theorem zn_41 : (41 : Int32).toNatClampNeg = 41 := by decide
theorem zn_42 : (42 : Int32).toNatClampNeg = 42 := by decide
theorem zn_43 : (43 : Int32).toNatClampNeg = 43 := by decide
theorem zn_44 : (44 : Int32).toNatClampNeg = 44 := by decide
theorem zn_45 : (45 : Int32).toNatClampNeg = 45 := by decide
theorem zn_46 : (46 : Int32).toNatClampNeg = 46 := by decide
theorem zn_47 : (47 : Int32).toNatClampNeg = 47 := by decide
theorem zn_48 : (48 : Int32).toNatClampNeg = 48 := by decide
theorem zn_49 : (49 : Int32).toNatClampNeg = 49 := by decide
theorem zn_50 : (50 : Int32).toNatClampNeg = 50 := by decide
theorem zn_51 : (51 : Int32).toNatClampNeg = 51 := by decide
theorem zn_52 : (52 : Int32).toNatClampNeg = 52 := by decide
theorem zn_53 : (53 : Int32).toNatClampNeg = 53 := by decide
theorem zn_54 : (54 : Int32).toNatClampNeg = 54 := by decide
theorem zn_55 : (55 : Int32).toNatClampNeg = 55 := by decide
theorem zn_56 : (56 : Int32).toNatClampNeg = 56 := by decide
theorem zn_57 : (57 : Int32).toNatClampNeg = 57 := by decide
theorem zn_58 : (58 : Int32).toNatClampNeg = 58 := by decide
theorem zn_59 : (59 : Int32).toNatClampNeg = 59 := by decide
theorem zn_60 : (60 : Int32).toNatClampNeg = 60 := by decide
theorem zn_61 : (61 : Int32).toNatClampNeg = 61 := by decide
theorem zn_62 : (62 : Int32).toNatClampNeg = 62 := by decide
theorem zn_63 : (63 : Int32).toNatClampNeg = 63 := by decide
theorem zn_64 : (64 : Int32).toNatClampNeg = 64 := by decide
theorem zn_65 : (65 : Int32).toNatClampNeg = 65 := by decide
theorem zn_66 : (66 : Int32).toNatClampNeg = 66 := by decide
theorem zn_67 : (67 : Int32).toNatClampNeg = 67 := by decide
theorem zn_68 : (68 : Int32).toNatClampNeg = 68 := by decide
theorem zn_69 : (69 : Int32).toNatClampNeg = 69 := by decide
theorem zn_70 : (70 : Int32).toNatClampNeg = 70 := by decide
theorem zn_71 : (71 : Int32).toNatClampNeg = 71 := by decide
theorem zn_72 : (72 : Int32).toNatClampNeg = 72 := by decide
theorem zn_73 : (73 : Int32).toNatClampNeg = 73 := by decide
theorem zn_74 : (74 : Int32).toNatClampNeg = 74 := by decide
theorem zn_75 : (75 : Int32).toNatClampNeg = 75 := by decide
theorem zn_76 : (76 : Int32).toNatClampNeg = 76 := by decide
theorem zn_77 : (77 : Int32).toNatClampNeg = 77 := by decide
theorem zn_78 : (78 : Int32).toNatClampNeg = 78 := by decide
theorem zn_79 : (79 : Int32).toNatClampNeg = 79 := by decide
theorem zn_80 : (80 : Int32).toNatClampNeg = 80 := by decide
theorem zn_81 : (81 : Int32).toNatClampNeg = 81 := by decide
theorem zn_82 : (82 : Int32).toNatClampNeg = 82 := by decide
theorem zn_83 : (83 : Int32).toNatClampNeg = 83 := by decide
theorem zn_84 : (84 : Int32).toNatClampNeg = 84 := by decide
theorem zn_85 : (85 : Int32).toNatClampNeg = 85 := by decide
theorem zn_86 : (86 : Int32).toNatClampNeg = 86 := by decide
theorem zn_87 : (87 : Int32).toNatClampNeg = 87 := by decide
theorem zn_88 : (88 : Int32).toNatClampNeg = 88 := by decide
theorem zn_89 : (89 : Int32).toNatClampNeg = 89 := by decide
theorem zn_90 : (90 : Int32).toNatClampNeg = 90 := by decide
theorem zn_91 : (91 : Int32).toNatClampNeg = 91 := by decide
theorem zn_92 : (92 : Int32).toNatClampNeg = 92 := by decide
theorem zn_93 : (93 : Int32).toNatClampNeg = 93 := by decide
theorem zn_94 : (94 : Int32).toNatClampNeg = 94 := by decide
theorem zn_95 : (95 : Int32).toNatClampNeg = 95 := by decide
theorem zn_96 : (96 : Int32).toNatClampNeg = 96 := by decide
theorem zn_97 : (97 : Int32).toNatClampNeg = 97 := by decide
theorem zn_98 : (98 : Int32).toNatClampNeg = 98 := by decide
theorem zn_99 : (99 : Int32).toNatClampNeg = 99 := by decide
theorem zn_100 : (100 : Int32).toNatClampNeg = 100 := by decide
theorem zn_101 : (101 : Int32).toNatClampNeg = 101 := by decide
theorem zn_102 : (102 : Int32).toNatClampNeg = 102 := by decide
theorem zn_103 : (103 : Int32).toNatClampNeg = 103 := by decide
theorem zn_104 : (104 : Int32).toNatClampNeg = 104 := by decide
theorem zn_105 : (105 : Int32).toNatClampNeg = 105 := by decide
theorem zn_106 : (106 : Int32).toNatClampNeg = 106 := by decide
theorem zn_107 : (107 : Int32).toNatClampNeg = 107 := by decide
theorem zn_108 : (108 : Int32).toNatClampNeg = 108 := by decide
theorem zn_109 : (109 : Int32).toNatClampNeg = 109 := by decide
theorem zn_110 : (110 : Int32).toNatClampNeg = 110 := by decide
theorem zn_111 : (111 : Int32).toNatClampNeg = 111 := by decide
theorem zn_112 : (112 : Int32).toNatClampNeg = 112 := by decide
theorem zn_113 : (113 : Int32).toNatClampNeg = 113 := by decide
theorem zn_114 : (114 : Int32).toNatClampNeg = 114 := by decide
theorem zn_115 : (115 : Int32).toNatClampNeg = 115 := by decide
theorem zn_116 : (116 : Int32).toNatClampNeg = 116 := by decide
theorem zn_117 : (117 : Int32).toNatClampNeg = 117 := by decide
theorem zn_118 : (118 : Int32).toNatClampNeg = 118 := by decide
theorem zn_119 : (119 : Int32).toNatClampNeg = 119 := by decide
theorem zn_120 : (120 : Int32).toNatClampNeg = 120 := by decide
theorem zn_121 : (121 : Int32).toNatClampNeg = 121 := by decide
theorem zn_122 : (122 : Int32).toNatClampNeg = 122 := by decide
theorem zn_123 : (123 : Int32).toNatClampNeg = 123 := by decide
theorem zn_124 : (124 : Int32).toNatClampNeg = 124 := by decide
theorem zn_125 : (125 : Int32).toNatClampNeg = 125 := by decide
theorem zn_126 : (126 : Int32).toNatClampNeg = 126 := by decide
theorem zn_127 : (127 : Int32).toNatClampNeg = 127 := by decide
theorem zn_128 : (128 : Int32).toNatClampNeg = 128 := by decide
theorem zn_129 : (129 : Int32).toNatClampNeg = 129 := by decide
theorem zn_144 : (144 : Int32).toNatClampNeg = 144 := by decide
theorem zn_800 : (800 : Int32).toNatClampNeg = 800 := by decide
theorem zn_949 : (949 : Int32).toNatClampNeg = 949 := by decide
theorem zn_48373 : (48373 : Int32).toNatClampNeg = 48373 := by decide
theorem zn_69277 : (69277 : Int32).toNatClampNeg = 69277 := by decide
theorem zc0 : zcl[0]? = some (RX1, TX1, 28) := rfl
theorem zok0 : ∀ k, k < 28 → parseFieldDescriptor (TX1 k).2.2.1 = some (zty 0 k) := tyX1_ok
theorem znm0 : ∀ a, a < 28 → ∀ b, b < 28 → a ≠ b → (TX1 a).2.1 ≠ (TX1 b).2.1 := nmX1
theorem zdf0 : ∀ j, j < 28 → defaultValue (zty 0 j) = zfv (zty 0 j) 0 0 .null := by decide +kernel
theorem zc1 : zcl[1]? = some (RX2, TX2, 9) := rfl
theorem zok1 : ∀ k, k < 9 → parseFieldDescriptor (TX2 k).2.2.1 = some (zty 1 k) := tyX2_ok
theorem znm1 : ∀ a, a < 9 → ∀ b, b < 9 → a ≠ b → (TX2 a).2.1 ≠ (TX2 b).2.1 := nmX2
theorem zdf1 : ∀ j, j < 9 → defaultValue (zty 1 j) = zfv (zty 1 j) 0 0 .null := by decide +kernel
theorem zc2 : zcl[2]? = some (RX3, TX3, 18) := rfl
theorem zok2 : ∀ k, k < 18 → parseFieldDescriptor (TX3 k).2.2.1 = some (zty 2 k) := tyX3_ok
theorem znm2 : ∀ a, a < 18 → ∀ b, b < 18 → a ≠ b → (TX3 a).2.1 ≠ (TX3 b).2.1 := nmX3
theorem zdf2 : ∀ j, j < 18 → defaultValue (zty 2 j) = zfv (zty 2 j) 0 0 .null := by decide +kernel
theorem zc3 : zcl[3]? = some (RX4, TX4, 3) := rfl
theorem zok3 : ∀ k, k < 3 → parseFieldDescriptor (TX4 k).2.2.1 = some (zty 3 k) := tyX4_ok
theorem znm3 : ∀ a, a < 3 → ∀ b, b < 3 → a ≠ b → (TX4 a).2.1 ≠ (TX4 b).2.1 := nmX4
theorem zdf3 : ∀ j, j < 3 → defaultValue (zty 3 j) = zfv (zty 3 j) 0 0 .null := by decide +kernel
theorem zc4 : zcl[4]? = some (RJ2, TJ2, 3) := rfl
theorem zok4 : ∀ k, k < 3 → parseFieldDescriptor (TJ2 k).2.2.1 = some (zty 4 k) := tyJ2_ok
theorem znm4 : ∀ a, a < 3 → ∀ b, b < 3 → a ≠ b → (TJ2 a).2.1 ≠ (TJ2 b).2.1 := nmJ2
theorem zdf4 : ∀ j, j < 3 → defaultValue (zty 4 j) = zfv (zty 4 j) 0 0 .null := by decide +kernel
theorem zc5 : zcl[5]? = some (RX6, zt0, 0) := rfl
theorem zok5 : ∀ k, k < 0 → parseFieldDescriptor (zt0 k).2.2.1 = some (zty 5 k) := fun k h => absurd h (Nat.not_lt_zero k)
theorem zdf5 : ∀ j, j < 0 → defaultValue (zty 5 j) = zfv (zty 5 j) 0 0 .null := fun k h => absurd h (Nat.not_lt_zero k)
theorem zc6 : zcl[6]? = some (RX7, zt0, 0) := rfl
theorem zok6 : ∀ k, k < 0 → parseFieldDescriptor (zt0 k).2.2.1 = some (zty 6 k) := fun k h => absurd h (Nat.not_lt_zero k)
theorem zdf6 : ∀ j, j < 0 → defaultValue (zty 6 j) = zfv (zty 6 j) 0 0 .null := fun k h => absurd h (Nat.not_lt_zero k)
theorem zc7 : zcl[7]? = some (RX8, zt0, 0) := rfl
theorem zok7 : ∀ k, k < 0 → parseFieldDescriptor (zt0 k).2.2.1 = some (zty 7 k) := fun k h => absurd h (Nat.not_lt_zero k)
theorem zdf7 : ∀ j, j < 0 → defaultValue (zty 7 j) = zfv (zty 7 j) 0 0 .null := fun k h => absurd h (Nat.not_lt_zero k)
theorem zc8 : zcl[8]? = some (RX9, zt0, 0) := rfl
theorem zok8 : ∀ k, k < 0 → parseFieldDescriptor (zt0 k).2.2.1 = some (zty 8 k) := fun k h => absurd h (Nat.not_lt_zero k)
theorem zdf8 : ∀ j, j < 0 → defaultValue (zty 8 j) = zfv (zty 8 j) 0 0 .null := fun k h => absurd h (Nat.not_lt_zero k)
theorem zc9 : zcl[9]? = some (RX10, TX10, 5) := rfl
theorem zok9 : ∀ k, k < 5 → parseFieldDescriptor (TX10 k).2.2.1 = some (zty 9 k) := tyX10_ok
theorem znm9 : ∀ a, a < 5 → ∀ b, b < 5 → a ≠ b → (TX10 a).2.1 ≠ (TX10 b).2.1 := nmX10
theorem zdf9 : ∀ j, j < 5 → defaultValue (zty 9 j) = zfv (zty 9 j) 0 0 .null := by decide +kernel
theorem zc10 : zcl[10]? = some (RX11, TX11, 2) := rfl
theorem zok10 : ∀ k, k < 2 → parseFieldDescriptor (TX11 k).2.2.1 = some (zty 10 k) := tyX11_ok
theorem znm10 : ∀ a, a < 2 → ∀ b, b < 2 → a ≠ b → (TX11 a).2.1 ≠ (TX11 b).2.1 := nmX11
theorem zdf10 : ∀ j, j < 2 → defaultValue (zty 10 j) = zfv (zty 10 j) 0 0 .null := by decide +kernel
theorem zc11 : zcl[11]? = some (RX12, TX12, 3) := rfl
theorem zok11 : ∀ k, k < 3 → parseFieldDescriptor (TX12 k).2.2.1 = some (zty 11 k) := tyX12_ok
theorem znm11 : ∀ a, a < 3 → ∀ b, b < 3 → a ≠ b → (TX12 a).2.1 ≠ (TX12 b).2.1 := nmX12
theorem zdf11 : ∀ j, j < 3 → defaultValue (zty 11 j) = zfv (zty 11 j) 0 0 .null := by decide +kernel
theorem zc12 : zcl[12]? = some (RX13, TX13, 89) := rfl
theorem zok12 : ∀ k, k < 89 → parseFieldDescriptor (TX13 k).2.2.1 = some (zty 12 k) := tyX13_ok
theorem znm12 : ∀ a, a < 89 → ∀ b, b < 89 → a ≠ b → (TX13 a).2.1 ≠ (TX13 b).2.1 := nmX13
theorem zdf12 : ∀ j, j < 89 → defaultValue (zty 12 j) = zfv (zty 12 j) 0 0 .null := by decide +kernel
theorem zc13 : zcl[13]? = some (RX14, TX14, 8) := rfl
theorem zok13 : ∀ k, k < 8 → parseFieldDescriptor (TX14 k).2.2.1 = some (zty 13 k) := tyX14_ok
theorem znm13 : ∀ a, a < 8 → ∀ b, b < 8 → a ≠ b → (TX14 a).2.1 ≠ (TX14 b).2.1 := nmX14
theorem zdf13 : ∀ j, j < 8 → defaultValue (zty 13 j) = zfv (zty 13 j) 0 0 .null := by decide +kernel
theorem zc14 : zcl[14]? = some (RX15, TX15, 3) := rfl
theorem zok14 : ∀ k, k < 3 → parseFieldDescriptor (TX15 k).2.2.1 = some (zty 14 k) := tyX15_ok
theorem znm14 : ∀ a, a < 3 → ∀ b, b < 3 → a ≠ b → (TX15 a).2.1 ≠ (TX15 b).2.1 := nmX15
theorem zdf14 : ∀ j, j < 3 → defaultValue (zty 14 j) = zfv (zty 14 j) 0 0 .null := by decide +kernel
theorem zc15 : zcl[15]? = some (RX17, TX17, 1) := rfl
theorem zok15 : ∀ k, k < 1 → parseFieldDescriptor (TX17 k).2.2.1 = some (zty 15 k) := tyX17_ok
theorem znm15 : ∀ a, a < 1 → ∀ b, b < 1 → a ≠ b → (TX17 a).2.1 ≠ (TX17 b).2.1 := nmX17
theorem zdf15 : ∀ j, j < 1 → defaultValue (zty 15 j) = zfv (zty 15 j) 0 0 .null := by decide +kernel
theorem zc16 : zcl[16]? = some (RX18, TX18, 1) := rfl
theorem zok16 : ∀ k, k < 1 → parseFieldDescriptor (TX18 k).2.2.1 = some (zty 16 k) := tyX18_ok
theorem znm16 : ∀ a, a < 1 → ∀ b, b < 1 → a ≠ b → (TX18 a).2.1 ≠ (TX18 b).2.1 := nmX18
theorem zdf16 : ∀ j, j < 1 → defaultValue (zty 16 j) = zfv (zty 16 j) 0 0 .null := by decide +kernel
theorem zc17 : zcl[17]? = some (RX19, TX19, 1) := rfl
theorem zok17 : ∀ k, k < 1 → parseFieldDescriptor (TX19 k).2.2.1 = some (zty 17 k) := tyX19_ok
theorem znm17 : ∀ a, a < 1 → ∀ b, b < 1 → a ≠ b → (TX19 a).2.1 ≠ (TX19 b).2.1 := nmX19
theorem zdf17 : ∀ j, j < 1 → defaultValue (zty 17 j) = zfv (zty 17 j) 0 0 .null := by decide +kernel
theorem zc18 : zcl[18]? = some (RX20, TX20, 3) := rfl
theorem zok18 : ∀ k, k < 3 → parseFieldDescriptor (TX20 k).2.2.1 = some (zty 18 k) := tyX20_ok
theorem znm18 : ∀ a, a < 3 → ∀ b, b < 3 → a ≠ b → (TX20 a).2.1 ≠ (TX20 b).2.1 := nmX20
theorem zdf18 : ∀ j, j < 3 → defaultValue (zty 18 j) = zfv (zty 18 j) 0 0 .null := by decide +kernel
theorem zc19 : zcl[19]? = some (RJ15, zt0, 0) := rfl
theorem zok19 : ∀ k, k < 0 → parseFieldDescriptor (zt0 k).2.2.1 = some (zty 19 k) := fun k h => absurd h (Nat.not_lt_zero k)
theorem zdf19 : ∀ j, j < 0 → defaultValue (zty 19 j) = zfv (zty 19 j) 0 0 .null := fun k h => absurd h (Nat.not_lt_zero k)
theorem zc20 : zcl[20]? = some (RJ17, zt0, 0) := rfl
theorem zok20 : ∀ k, k < 0 → parseFieldDescriptor (zt0 k).2.2.1 = some (zty 20 k) := fun k h => absurd h (Nat.not_lt_zero k)
theorem zdf20 : ∀ j, j < 0 → defaultValue (zty 20 j) = zfv (zty 20 j) 0 0 .null := fun k h => absurd h (Nat.not_lt_zero k)
def zMF : List (Nat × Nat × Nat) := [(2000, 0, 2001), (2000, 3, 2004), (2000, 30, 2031), (2000, 31, 2032), (2000, 32, 2033), (2000, 33, 2034), (2000, 34, 2035), (2000, 35, 2036), (2000, 36, 2037), (2000, 37, 2038), (2000, 38, 2039), (2000, 39, 2040), (2000, 40, 2041), (2000, 41, 2042), (2000, 42, 2043), (2000, 43, 2044), (2000, 44, 2045), (2000, 45, 2046), (2000, 46, 2047), (2000, 47, 2048), (2000, 54, 2055), (2000, 55, 2056), (2000, 60, 2061), (2000, 61, 2062), (2000, 64, 2065), (2000, 65, 2066), (2000, 67, 2068), (2000, 70, 2071), (2000, 71, 2072), (2000, 72, 2073), (2000, 73, 2074), (2000, 74, 2075), (2000, 77, 2078), (2000, 78, 2079), (2000, 80, 2081), (2000, 85, 2086), (2000, 86, 2087), (2000, 87, 2088), (2000, 88, 2089)]
def zMT : List (Nat × Nat × Nat) := [(2000, 13, 0), (2001, 100, 800), (2004, 100, 129), (2031, 100, 4), (2032, 100, 2), (2033, 100, 48), (2034, 100, 48), (2035, 100, 12), (2036, 100, 12), (2037, 100, 12), (2038, 100, 144), (2039, 100, 48), (2040, 100, 24), (2041, 100, 12), (2042, 100, 144), (2043, 100, 54), (2044, 100, 128), (2045, 100, 128), (2046, 100, 128), (2047, 100, 96), (2048, 100, 96), (2055, 101, 6), (2056, 101, 64), (2061, 100, 72), (2062, 100, 12), (2065, 101, 13), (2066, 100, 13), (2068, 100, 60), (2071, 100, 12), (2072, 100, 69277), (2073, 102, 949), (2074, 102, 949), (2075, 100, 12), (2078, 100, 6), (2079, 100, 6), (2081, 102, 36), (2086, 100, 72), (2087, 100, 2), (2088, 100, 24), (2089, 100, 24)]
/-- the laid-out objects of the reference: references that stay, tags and lengths -/
def zMok (T : zT) (R : zR) : Prop := (∀ q ∈ zMF, R q.1 q.2.1 = q.2.2) ∧ ∀ q ∈ zMT, T q.1 = (q.2.1, q.2.2)
theorem zM_r2000_0 {T : zT} {R : zR} (h : zMok T R) : R 2000 0 = 2001 := h.1 _ (List.mem_of_getElem? (i := 0) (a := (2000, 0, 2001)) rfl)
theorem zM_r2000_3 {T : zT} {R : zR} (h : zMok T R) : R 2000 3 = 2004 := h.1 _ (List.mem_of_getElem? (i := 1) (a := (2000, 3, 2004)) rfl)
theorem zM_r2000_30 {T : zT} {R : zR} (h : zMok T R) : R 2000 30 = 2031 := h.1 _ (List.mem_of_getElem? (i := 2) (a := (2000, 30, 2031)) rfl)
theorem zM_r2000_31 {T : zT} {R : zR} (h : zMok T R) : R 2000 31 = 2032 := h.1 _ (List.mem_of_getElem? (i := 3) (a := (2000, 31, 2032)) rfl)
theorem zM_r2000_32 {T : zT} {R : zR} (h : zMok T R) : R 2000 32 = 2033 := h.1 _ (List.mem_of_getElem? (i := 4) (a := (2000, 32, 2033)) rfl)
theorem zM_r2000_33 {T : zT} {R : zR} (h : zMok T R) : R 2000 33 = 2034 := h.1 _ (List.mem_of_getElem? (i := 5) (a := (2000, 33, 2034)) rfl)
theorem zM_r2000_34 {T : zT} {R : zR} (h : zMok T R) : R 2000 34 = 2035 := h.1 _ (List.mem_of_getElem? (i := 6) (a := (2000, 34, 2035)) rfl)
theorem zM_r2000_35 {T : zT} {R : zR} (h : zMok T R) : R 2000 35 = 2036 := h.1 _ (List.mem_of_getElem? (i := 7) (a := (2000, 35, 2036)) rfl)
theorem zM_r2000_36 {T : zT} {R : zR} (h : zMok T R) : R 2000 36 = 2037 := h.1 _ (List.mem_of_getElem? (i := 8) (a := (2000, 36, 2037)) rfl)
theorem zM_r2000_37 {T : zT} {R : zR} (h : zMok T R) : R 2000 37 = 2038 := h.1 _ (List.mem_of_getElem? (i := 9) (a := (2000, 37, 2038)) rfl)
theorem zM_r2000_38 {T : zT} {R : zR} (h : zMok T R) : R 2000 38 = 2039 := h.1 _ (List.mem_of_getElem? (i := 10) (a := (2000, 38, 2039)) rfl)
theorem zM_r2000_39 {T : zT} {R : zR} (h : zMok T R) : R 2000 39 = 2040 := h.1 _ (List.mem_of_getElem? (i := 11) (a := (2000, 39, 2040)) rfl)
theorem zM_r2000_40 {T : zT} {R : zR} (h : zMok T R) : R 2000 40 = 2041 := h.1 _ (List.mem_of_getElem? (i := 12) (a := (2000, 40, 2041)) rfl)
theorem zM_r2000_41 {T : zT} {R : zR} (h : zMok T R) : R 2000 41 = 2042 := h.1 _ (List.mem_of_getElem? (i := 13) (a := (2000, 41, 2042)) rfl)
theorem zM_r2000_42 {T : zT} {R : zR} (h : zMok T R) : R 2000 42 = 2043 := h.1 _ (List.mem_of_getElem? (i := 14) (a := (2000, 42, 2043)) rfl)
theorem zM_r2000_43 {T : zT} {R : zR} (h : zMok T R) : R 2000 43 = 2044 := h.1 _ (List.mem_of_getElem? (i := 15) (a := (2000, 43, 2044)) rfl)
theorem zM_r2000_44 {T : zT} {R : zR} (h : zMok T R) : R 2000 44 = 2045 := h.1 _ (List.mem_of_getElem? (i := 16) (a := (2000, 44, 2045)) rfl)
theorem zM_r2000_45 {T : zT} {R : zR} (h : zMok T R) : R 2000 45 = 2046 := h.1 _ (List.mem_of_getElem? (i := 17) (a := (2000, 45, 2046)) rfl)
theorem zM_r2000_46 {T : zT} {R : zR} (h : zMok T R) : R 2000 46 = 2047 := h.1 _ (List.mem_of_getElem? (i := 18) (a := (2000, 46, 2047)) rfl)
theorem zM_r2000_47 {T : zT} {R : zR} (h : zMok T R) : R 2000 47 = 2048 := h.1 _ (List.mem_of_getElem? (i := 19) (a := (2000, 47, 2048)) rfl)
theorem zM_r2000_54 {T : zT} {R : zR} (h : zMok T R) : R 2000 54 = 2055 := h.1 _ (List.mem_of_getElem? (i := 20) (a := (2000, 54, 2055)) rfl)
theorem zM_r2000_55 {T : zT} {R : zR} (h : zMok T R) : R 2000 55 = 2056 := h.1 _ (List.mem_of_getElem? (i := 21) (a := (2000, 55, 2056)) rfl)
theorem zM_r2000_60 {T : zT} {R : zR} (h : zMok T R) : R 2000 60 = 2061 := h.1 _ (List.mem_of_getElem? (i := 22) (a := (2000, 60, 2061)) rfl)
theorem zM_r2000_61 {T : zT} {R : zR} (h : zMok T R) : R 2000 61 = 2062 := h.1 _ (List.mem_of_getElem? (i := 23) (a := (2000, 61, 2062)) rfl)
theorem zM_r2000_64 {T : zT} {R : zR} (h : zMok T R) : R 2000 64 = 2065 := h.1 _ (List.mem_of_getElem? (i := 24) (a := (2000, 64, 2065)) rfl)
theorem zM_r2000_65 {T : zT} {R : zR} (h : zMok T R) : R 2000 65 = 2066 := h.1 _ (List.mem_of_getElem? (i := 25) (a := (2000, 65, 2066)) rfl)
theorem zM_r2000_67 {T : zT} {R : zR} (h : zMok T R) : R 2000 67 = 2068 := h.1 _ (List.mem_of_getElem? (i := 26) (a := (2000, 67, 2068)) rfl)
theorem zM_r2000_70 {T : zT} {R : zR} (h : zMok T R) : R 2000 70 = 2071 := h.1 _ (List.mem_of_getElem? (i := 27) (a := (2000, 70, 2071)) rfl)
theorem zM_r2000_71 {T : zT} {R : zR} (h : zMok T R) : R 2000 71 = 2072 := h.1 _ (List.mem_of_getElem? (i := 28) (a := (2000, 71, 2072)) rfl)
theorem zM_r2000_72 {T : zT} {R : zR} (h : zMok T R) : R 2000 72 = 2073 := h.1 _ (List.mem_of_getElem? (i := 29) (a := (2000, 72, 2073)) rfl)
theorem zM_r2000_73 {T : zT} {R : zR} (h : zMok T R) : R 2000 73 = 2074 := h.1 _ (List.mem_of_getElem? (i := 30) (a := (2000, 73, 2074)) rfl)
theorem zM_r2000_74 {T : zT} {R : zR} (h : zMok T R) : R 2000 74 = 2075 := h.1 _ (List.mem_of_getElem? (i := 31) (a := (2000, 74, 2075)) rfl)
theorem zM_r2000_77 {T : zT} {R : zR} (h : zMok T R) : R 2000 77 = 2078 := h.1 _ (List.mem_of_getElem? (i := 32) (a := (2000, 77, 2078)) rfl)
theorem zM_r2000_78 {T : zT} {R : zR} (h : zMok T R) : R 2000 78 = 2079 := h.1 _ (List.mem_of_getElem? (i := 33) (a := (2000, 78, 2079)) rfl)
theorem zM_r2000_80 {T : zT} {R : zR} (h : zMok T R) : R 2000 80 = 2081 := h.1 _ (List.mem_of_getElem? (i := 34) (a := (2000, 80, 2081)) rfl)
theorem zM_r2000_85 {T : zT} {R : zR} (h : zMok T R) : R 2000 85 = 2086 := h.1 _ (List.mem_of_getElem? (i := 35) (a := (2000, 85, 2086)) rfl)
theorem zM_r2000_86 {T : zT} {R : zR} (h : zMok T R) : R 2000 86 = 2087 := h.1 _ (List.mem_of_getElem? (i := 36) (a := (2000, 86, 2087)) rfl)
theorem zM_r2000_87 {T : zT} {R : zR} (h : zMok T R) : R 2000 87 = 2088 := h.1 _ (List.mem_of_getElem? (i := 37) (a := (2000, 87, 2088)) rfl)
theorem zM_r2000_88 {T : zT} {R : zR} (h : zMok T R) : R 2000 88 = 2089 := h.1 _ (List.mem_of_getElem? (i := 38) (a := (2000, 88, 2089)) rfl)
theorem zM_t2000 {T : zT} {R : zR} (h : zMok T R) : T 2000 = (13, 0) := h.2 _ (List.mem_of_getElem? (i := 0) (a := (2000, 13, 0)) rfl)
theorem zM_t2001 {T : zT} {R : zR} (h : zMok T R) : T 2001 = (100, 800) := h.2 _ (List.mem_of_getElem? (i := 1) (a := (2001, 100, 800)) rfl)
theorem zM_t2004 {T : zT} {R : zR} (h : zMok T R) : T 2004 = (100, 129) := h.2 _ (List.mem_of_getElem? (i := 2) (a := (2004, 100, 129)) rfl)
theorem zM_t2031 {T : zT} {R : zR} (h : zMok T R) : T 2031 = (100, 4) := h.2 _ (List.mem_of_getElem? (i := 3) (a := (2031, 100, 4)) rfl)
theorem zM_t2032 {T : zT} {R : zR} (h : zMok T R) : T 2032 = (100, 2) := h.2 _ (List.mem_of_getElem? (i := 4) (a := (2032, 100, 2)) rfl)
theorem zM_t2033 {T : zT} {R : zR} (h : zMok T R) : T 2033 = (100, 48) := h.2 _ (List.mem_of_getElem? (i := 5) (a := (2033, 100, 48)) rfl)
theorem zM_t2034 {T : zT} {R : zR} (h : zMok T R) : T 2034 = (100, 48) := h.2 _ (List.mem_of_getElem? (i := 6) (a := (2034, 100, 48)) rfl)
theorem zM_t2035 {T : zT} {R : zR} (h : zMok T R) : T 2035 = (100, 12) := h.2 _ (List.mem_of_getElem? (i := 7) (a := (2035, 100, 12)) rfl)
theorem zM_t2036 {T : zT} {R : zR} (h : zMok T R) : T 2036 = (100, 12) := h.2 _ (List.mem_of_getElem? (i := 8) (a := (2036, 100, 12)) rfl)
theorem zM_t2037 {T : zT} {R : zR} (h : zMok T R) : T 2037 = (100, 12) := h.2 _ (List.mem_of_getElem? (i := 9) (a := (2037, 100, 12)) rfl)
theorem zM_t2038 {T : zT} {R : zR} (h : zMok T R) : T 2038 = (100, 144) := h.2 _ (List.mem_of_getElem? (i := 10) (a := (2038, 100, 144)) rfl)
theorem zM_t2039 {T : zT} {R : zR} (h : zMok T R) : T 2039 = (100, 48) := h.2 _ (List.mem_of_getElem? (i := 11) (a := (2039, 100, 48)) rfl)
theorem zM_t2040 {T : zT} {R : zR} (h : zMok T R) : T 2040 = (100, 24) := h.2 _ (List.mem_of_getElem? (i := 12) (a := (2040, 100, 24)) rfl)
theorem zM_t2041 {T : zT} {R : zR} (h : zMok T R) : T 2041 = (100, 12) := h.2 _ (List.mem_of_getElem? (i := 13) (a := (2041, 100, 12)) rfl)
theorem zM_t2042 {T : zT} {R : zR} (h : zMok T R) : T 2042 = (100, 144) := h.2 _ (List.mem_of_getElem? (i := 14) (a := (2042, 100, 144)) rfl)
theorem zM_t2043 {T : zT} {R : zR} (h : zMok T R) : T 2043 = (100, 54) := h.2 _ (List.mem_of_getElem? (i := 15) (a := (2043, 100, 54)) rfl)
theorem zM_t2044 {T : zT} {R : zR} (h : zMok T R) : T 2044 = (100, 128) := h.2 _ (List.mem_of_getElem? (i := 16) (a := (2044, 100, 128)) rfl)
theorem zM_t2045 {T : zT} {R : zR} (h : zMok T R) : T 2045 = (100, 128) := h.2 _ (List.mem_of_getElem? (i := 17) (a := (2045, 100, 128)) rfl)
theorem zM_t2046 {T : zT} {R : zR} (h : zMok T R) : T 2046 = (100, 128) := h.2 _ (List.mem_of_getElem? (i := 18) (a := (2046, 100, 128)) rfl)
theorem zM_t2047 {T : zT} {R : zR} (h : zMok T R) : T 2047 = (100, 96) := h.2 _ (List.mem_of_getElem? (i := 19) (a := (2047, 100, 96)) rfl)
theorem zM_t2048 {T : zT} {R : zR} (h : zMok T R) : T 2048 = (100, 96) := h.2 _ (List.mem_of_getElem? (i := 20) (a := (2048, 100, 96)) rfl)
theorem zM_t2055 {T : zT} {R : zR} (h : zMok T R) : T 2055 = (101, 6) := h.2 _ (List.mem_of_getElem? (i := 21) (a := (2055, 101, 6)) rfl)
theorem zM_t2056 {T : zT} {R : zR} (h : zMok T R) : T 2056 = (101, 64) := h.2 _ (List.mem_of_getElem? (i := 22) (a := (2056, 101, 64)) rfl)
theorem zM_t2061 {T : zT} {R : zR} (h : zMok T R) : T 2061 = (100, 72) := h.2 _ (List.mem_of_getElem? (i := 23) (a := (2061, 100, 72)) rfl)
theorem zM_t2062 {T : zT} {R : zR} (h : zMok T R) : T 2062 = (100, 12) := h.2 _ (List.mem_of_getElem? (i := 24) (a := (2062, 100, 12)) rfl)
theorem zM_t2065 {T : zT} {R : zR} (h : zMok T R) : T 2065 = (101, 13) := h.2 _ (List.mem_of_getElem? (i := 25) (a := (2065, 101, 13)) rfl)
theorem zM_t2066 {T : zT} {R : zR} (h : zMok T R) : T 2066 = (100, 13) := h.2 _ (List.mem_of_getElem? (i := 26) (a := (2066, 100, 13)) rfl)
theorem zM_t2068 {T : zT} {R : zR} (h : zMok T R) : T 2068 = (100, 60) := h.2 _ (List.mem_of_getElem? (i := 27) (a := (2068, 100, 60)) rfl)
theorem zM_t2071 {T : zT} {R : zR} (h : zMok T R) : T 2071 = (100, 12) := h.2 _ (List.mem_of_getElem? (i := 28) (a := (2071, 100, 12)) rfl)
theorem zM_t2072 {T : zT} {R : zR} (h : zMok T R) : T 2072 = (100, 69277) := h.2 _ (List.mem_of_getElem? (i := 29) (a := (2072, 100, 69277)) rfl)
theorem zM_t2073 {T : zT} {R : zR} (h : zMok T R) : T 2073 = (102, 949) := h.2 _ (List.mem_of_getElem? (i := 30) (a := (2073, 102, 949)) rfl)
theorem zM_t2074 {T : zT} {R : zR} (h : zMok T R) : T 2074 = (102, 949) := h.2 _ (List.mem_of_getElem? (i := 31) (a := (2074, 102, 949)) rfl)
theorem zM_t2075 {T : zT} {R : zR} (h : zMok T R) : T 2075 = (100, 12) := h.2 _ (List.mem_of_getElem? (i := 32) (a := (2075, 100, 12)) rfl)
theorem zM_t2078 {T : zT} {R : zR} (h : zMok T R) : T 2078 = (100, 6) := h.2 _ (List.mem_of_getElem? (i := 33) (a := (2078, 100, 6)) rfl)
theorem zM_t2079 {T : zT} {R : zR} (h : zMok T R) : T 2079 = (100, 6) := h.2 _ (List.mem_of_getElem? (i := 34) (a := (2079, 100, 6)) rfl)
theorem zM_t2081 {T : zT} {R : zR} (h : zMok T R) : T 2081 = (102, 36) := h.2 _ (List.mem_of_getElem? (i := 35) (a := (2081, 102, 36)) rfl)
theorem zM_t2086 {T : zT} {R : zR} (h : zMok T R) : T 2086 = (100, 72) := h.2 _ (List.mem_of_getElem? (i := 36) (a := (2086, 100, 72)) rfl)
theorem zM_t2087 {T : zT} {R : zR} (h : zMok T R) : T 2087 = (100, 2) := h.2 _ (List.mem_of_getElem? (i := 37) (a := (2087, 100, 2)) rfl)
theorem zM_t2088 {T : zT} {R : zR} (h : zMok T R) : T 2088 = (100, 24) := h.2 _ (List.mem_of_getElem? (i := 38) (a := (2088, 100, 24)) rfl)
theorem zM_t2089 {T : zT} {R : zR} (h : zMok T R) : T 2089 = (100, 24) := h.2 _ (List.mem_of_getElem? (i := 39) (a := (2089, 100, 24)) rfl)
def zXF : List (Nat × Nat × Nat) := [(1000, 0, 1001), (1000, 9, 1010), (1000, 12, 1013), (1000, 13, 1014), (1000, 15, 1016), (1000, 16, 1017), (1000, 17, 1018), (1000, 18, 1019), (1000, 25, 1026), (1000, 26, 1027), (1000, 7, 1008), (1000, 10, 1200), (1000, 11, 1230), (1000, 19, 1020), (1000, 21, 1022), (1000, 24, 1025), (1008, 8, 1000), (1200, 0, 1201), (1200, 1, 1202), (1200, 4, 1000), (1201, 0, 1203), (1201, 1, 1206), (1203, 0, 1204), (1203, 1, 1205), (1206, 0, 1207), (1206, 1, 1208), (1202, 0, 1210), (1210, 0, 1211), (1202, 1, 1212), (1212, 0, 1213), (1202, 2, 1214), (1214, 0, 1215), (1202, 3, 1216), (1216, 0, 1217), (1202, 4, 1218), (1218, 0, 1219), (1202, 5, 1220), (1220, 0, 1221), (1230, 0, 1231), (1230, 1, 1232), (1230, 4, 1000), (1231, 0, 1233), (1231, 1, 1236), (1233, 0, 1234), (1233, 1, 1235), (1236, 0, 1237), (1236, 1, 1238), (1232, 0, 1240), (1240, 0, 1241), (1232, 1, 1242), (1242, 0, 1243), (1232, 2, 1244), (1244, 0, 1245), (1232, 3, 1246), (1246, 0, 1247), (1232, 4, 1248), (1248, 0, 1249), (1232, 5, 1250), (1250, 0, 1251), (1020, 0, 1050), (1022, 0, 1051), (1025, 0, 1052), (1010, 0, 1030), (1010, 1, 1031), (1010, 2, 1032), (1010, 3, 1033), (1018, 0, 1040), (1040, 2, 1000), (1018, 1, 1041), (1041, 2, 1000)]
def zXT : List (Nat × Nat × Nat) := [(1000, 1, 0), (1001, 103, 800), (1010, 108, 4), (1013, 106, 20), (1014, 101, 6), (1016, 101, 13), (1017, 100, 13), (1018, 107, 2), (1019, 100, 48373), (1026, 100, 6), (1027, 100, 6), (1008, 2, 0), (1200, 10, 0), (1230, 10, 0), (1020, 11, 0), (1022, 11, 0), (1025, 11, 0), (1201, 104, 2), (1202, 105, 6), (1203, 4, 0), (1204, 100, 12), (1205, 100, 12), (1206, 4, 0), (1207, 100, 12), (1208, 100, 12), (1210, 11, 0), (1211, 100, 12), (1212, 11, 0), (1213, 100, 12), (1214, 11, 0), (1215, 100, 12), (1216, 11, 0), (1217, 100, 12), (1218, 11, 0), (1219, 100, 12), (1220, 11, 0), (1221, 100, 12), (1231, 104, 2), (1232, 105, 6), (1233, 4, 0), (1234, 100, 12), (1235, 100, 12), (1236, 4, 0), (1237, 100, 12), (1238, 100, 12), (1240, 11, 0), (1241, 100, 12), (1242, 11, 0), (1243, 100, 12), (1244, 11, 0), (1245, 100, 12), (1246, 11, 0), (1247, 100, 12), (1248, 11, 0), (1249, 100, 12), (1250, 11, 0), (1251, 100, 12), (1050, 100, 12), (1051, 100, 12), (1052, 100, 12), (1030, 6, 0), (1031, 7, 0), (1032, 8, 0), (1033, 9, 0), (1040, 12, 0), (1041, 12, 0)]
/-- the laid-out objects of the class: references that stay, tags and lengths -/
def zXok (T : zT) (R : zR) : Prop := (∀ q ∈ zXF, R q.1 q.2.1 = q.2.2) ∧ ∀ q ∈ zXT, T q.1 = (q.2.1, q.2.2)
theorem zX_r1000_0 {T : zT} {R : zR} (h : zXok T R) : R 1000 0 = 1001 := h.1 _ (List.mem_of_getElem? (i := 0) (a := (1000, 0, 1001)) rfl)
theorem zX_r1000_9 {T : zT} {R : zR} (h : zXok T R) : R 1000 9 = 1010 := h.1 _ (List.mem_of_getElem? (i := 1) (a := (1000, 9, 1010)) rfl)
theorem zX_r1000_12 {T : zT} {R : zR} (h : zXok T R) : R 1000 12 = 1013 := h.1 _ (List.mem_of_getElem? (i := 2) (a := (1000, 12, 1013)) rfl)
theorem zX_r1000_13 {T : zT} {R : zR} (h : zXok T R) : R 1000 13 = 1014 := h.1 _ (List.mem_of_getElem? (i := 3) (a := (1000, 13, 1014)) rfl)
theorem zX_r1000_15 {T : zT} {R : zR} (h : zXok T R) : R 1000 15 = 1016 := h.1 _ (List.mem_of_getElem? (i := 4) (a := (1000, 15, 1016)) rfl)
theorem zX_r1000_16 {T : zT} {R : zR} (h : zXok T R) : R 1000 16 = 1017 := h.1 _ (List.mem_of_getElem? (i := 5) (a := (1000, 16, 1017)) rfl)
theorem zX_r1000_17 {T : zT} {R : zR} (h : zXok T R) : R 1000 17 = 1018 := h.1 _ (List.mem_of_getElem? (i := 6) (a := (1000, 17, 1018)) rfl)
theorem zX_r1000_18 {T : zT} {R : zR} (h : zXok T R) : R 1000 18 = 1019 := h.1 _ (List.mem_of_getElem? (i := 7) (a := (1000, 18, 1019)) rfl)
theorem zX_r1000_25 {T : zT} {R : zR} (h : zXok T R) : R 1000 25 = 1026 := h.1 _ (List.mem_of_getElem? (i := 8) (a := (1000, 25, 1026)) rfl)
theorem zX_r1000_26 {T : zT} {R : zR} (h : zXok T R) : R 1000 26 = 1027 := h.1 _ (List.mem_of_getElem? (i := 9) (a := (1000, 26, 1027)) rfl)
theorem zX_r1000_7 {T : zT} {R : zR} (h : zXok T R) : R 1000 7 = 1008 := h.1 _ (List.mem_of_getElem? (i := 10) (a := (1000, 7, 1008)) rfl)
theorem zX_r1000_10 {T : zT} {R : zR} (h : zXok T R) : R 1000 10 = 1200 := h.1 _ (List.mem_of_getElem? (i := 11) (a := (1000, 10, 1200)) rfl)
theorem zX_r1000_11 {T : zT} {R : zR} (h : zXok T R) : R 1000 11 = 1230 := h.1 _ (List.mem_of_getElem? (i := 12) (a := (1000, 11, 1230)) rfl)
theorem zX_r1000_19 {T : zT} {R : zR} (h : zXok T R) : R 1000 19 = 1020 := h.1 _ (List.mem_of_getElem? (i := 13) (a := (1000, 19, 1020)) rfl)
theorem zX_r1000_21 {T : zT} {R : zR} (h : zXok T R) : R 1000 21 = 1022 := h.1 _ (List.mem_of_getElem? (i := 14) (a := (1000, 21, 1022)) rfl)
theorem zX_r1000_24 {T : zT} {R : zR} (h : zXok T R) : R 1000 24 = 1025 := h.1 _ (List.mem_of_getElem? (i := 15) (a := (1000, 24, 1025)) rfl)
theorem zX_r1008_8 {T : zT} {R : zR} (h : zXok T R) : R 1008 8 = 1000 := h.1 _ (List.mem_of_getElem? (i := 16) (a := (1008, 8, 1000)) rfl)
theorem zX_r1200_0 {T : zT} {R : zR} (h : zXok T R) : R 1200 0 = 1201 := h.1 _ (List.mem_of_getElem? (i := 17) (a := (1200, 0, 1201)) rfl)
theorem zX_r1200_1 {T : zT} {R : zR} (h : zXok T R) : R 1200 1 = 1202 := h.1 _ (List.mem_of_getElem? (i := 18) (a := (1200, 1, 1202)) rfl)
theorem zX_r1200_4 {T : zT} {R : zR} (h : zXok T R) : R 1200 4 = 1000 := h.1 _ (List.mem_of_getElem? (i := 19) (a := (1200, 4, 1000)) rfl)
theorem zX_r1201_0 {T : zT} {R : zR} (h : zXok T R) : R 1201 0 = 1203 := h.1 _ (List.mem_of_getElem? (i := 20) (a := (1201, 0, 1203)) rfl)
theorem zX_r1201_1 {T : zT} {R : zR} (h : zXok T R) : R 1201 1 = 1206 := h.1 _ (List.mem_of_getElem? (i := 21) (a := (1201, 1, 1206)) rfl)
theorem zX_r1203_0 {T : zT} {R : zR} (h : zXok T R) : R 1203 0 = 1204 := h.1 _ (List.mem_of_getElem? (i := 22) (a := (1203, 0, 1204)) rfl)
theorem zX_r1203_1 {T : zT} {R : zR} (h : zXok T R) : R 1203 1 = 1205 := h.1 _ (List.mem_of_getElem? (i := 23) (a := (1203, 1, 1205)) rfl)
theorem zX_r1206_0 {T : zT} {R : zR} (h : zXok T R) : R 1206 0 = 1207 := h.1 _ (List.mem_of_getElem? (i := 24) (a := (1206, 0, 1207)) rfl)
theorem zX_r1206_1 {T : zT} {R : zR} (h : zXok T R) : R 1206 1 = 1208 := h.1 _ (List.mem_of_getElem? (i := 25) (a := (1206, 1, 1208)) rfl)
theorem zX_r1202_0 {T : zT} {R : zR} (h : zXok T R) : R 1202 0 = 1210 := h.1 _ (List.mem_of_getElem? (i := 26) (a := (1202, 0, 1210)) rfl)
theorem zX_r1210_0 {T : zT} {R : zR} (h : zXok T R) : R 1210 0 = 1211 := h.1 _ (List.mem_of_getElem? (i := 27) (a := (1210, 0, 1211)) rfl)
theorem zX_r1202_1 {T : zT} {R : zR} (h : zXok T R) : R 1202 1 = 1212 := h.1 _ (List.mem_of_getElem? (i := 28) (a := (1202, 1, 1212)) rfl)
theorem zX_r1212_0 {T : zT} {R : zR} (h : zXok T R) : R 1212 0 = 1213 := h.1 _ (List.mem_of_getElem? (i := 29) (a := (1212, 0, 1213)) rfl)
theorem zX_r1202_2 {T : zT} {R : zR} (h : zXok T R) : R 1202 2 = 1214 := h.1 _ (List.mem_of_getElem? (i := 30) (a := (1202, 2, 1214)) rfl)
theorem zX_r1214_0 {T : zT} {R : zR} (h : zXok T R) : R 1214 0 = 1215 := h.1 _ (List.mem_of_getElem? (i := 31) (a := (1214, 0, 1215)) rfl)
theorem zX_r1202_3 {T : zT} {R : zR} (h : zXok T R) : R 1202 3 = 1216 := h.1 _ (List.mem_of_getElem? (i := 32) (a := (1202, 3, 1216)) rfl)
theorem zX_r1216_0 {T : zT} {R : zR} (h : zXok T R) : R 1216 0 = 1217 := h.1 _ (List.mem_of_getElem? (i := 33) (a := (1216, 0, 1217)) rfl)
theorem zX_r1202_4 {T : zT} {R : zR} (h : zXok T R) : R 1202 4 = 1218 := h.1 _ (List.mem_of_getElem? (i := 34) (a := (1202, 4, 1218)) rfl)
theorem zX_r1218_0 {T : zT} {R : zR} (h : zXok T R) : R 1218 0 = 1219 := h.1 _ (List.mem_of_getElem? (i := 35) (a := (1218, 0, 1219)) rfl)
theorem zX_r1202_5 {T : zT} {R : zR} (h : zXok T R) : R 1202 5 = 1220 := h.1 _ (List.mem_of_getElem? (i := 36) (a := (1202, 5, 1220)) rfl)
theorem zX_r1220_0 {T : zT} {R : zR} (h : zXok T R) : R 1220 0 = 1221 := h.1 _ (List.mem_of_getElem? (i := 37) (a := (1220, 0, 1221)) rfl)
theorem zX_r1230_0 {T : zT} {R : zR} (h : zXok T R) : R 1230 0 = 1231 := h.1 _ (List.mem_of_getElem? (i := 38) (a := (1230, 0, 1231)) rfl)
theorem zX_r1230_1 {T : zT} {R : zR} (h : zXok T R) : R 1230 1 = 1232 := h.1 _ (List.mem_of_getElem? (i := 39) (a := (1230, 1, 1232)) rfl)
theorem zX_r1230_4 {T : zT} {R : zR} (h : zXok T R) : R 1230 4 = 1000 := h.1 _ (List.mem_of_getElem? (i := 40) (a := (1230, 4, 1000)) rfl)
theorem zX_r1231_0 {T : zT} {R : zR} (h : zXok T R) : R 1231 0 = 1233 := h.1 _ (List.mem_of_getElem? (i := 41) (a := (1231, 0, 1233)) rfl)
theorem zX_r1231_1 {T : zT} {R : zR} (h : zXok T R) : R 1231 1 = 1236 := h.1 _ (List.mem_of_getElem? (i := 42) (a := (1231, 1, 1236)) rfl)
theorem zX_r1233_0 {T : zT} {R : zR} (h : zXok T R) : R 1233 0 = 1234 := h.1 _ (List.mem_of_getElem? (i := 43) (a := (1233, 0, 1234)) rfl)
theorem zX_r1233_1 {T : zT} {R : zR} (h : zXok T R) : R 1233 1 = 1235 := h.1 _ (List.mem_of_getElem? (i := 44) (a := (1233, 1, 1235)) rfl)
theorem zX_r1236_0 {T : zT} {R : zR} (h : zXok T R) : R 1236 0 = 1237 := h.1 _ (List.mem_of_getElem? (i := 45) (a := (1236, 0, 1237)) rfl)
theorem zX_r1236_1 {T : zT} {R : zR} (h : zXok T R) : R 1236 1 = 1238 := h.1 _ (List.mem_of_getElem? (i := 46) (a := (1236, 1, 1238)) rfl)
theorem zX_r1232_0 {T : zT} {R : zR} (h : zXok T R) : R 1232 0 = 1240 := h.1 _ (List.mem_of_getElem? (i := 47) (a := (1232, 0, 1240)) rfl)
theorem zX_r1240_0 {T : zT} {R : zR} (h : zXok T R) : R 1240 0 = 1241 := h.1 _ (List.mem_of_getElem? (i := 48) (a := (1240, 0, 1241)) rfl)
theorem zX_r1232_1 {T : zT} {R : zR} (h : zXok T R) : R 1232 1 = 1242 := h.1 _ (List.mem_of_getElem? (i := 49) (a := (1232, 1, 1242)) rfl)
theorem zX_r1242_0 {T : zT} {R : zR} (h : zXok T R) : R 1242 0 = 1243 := h.1 _ (List.mem_of_getElem? (i := 50) (a := (1242, 0, 1243)) rfl)
theorem zX_r1232_2 {T : zT} {R : zR} (h : zXok T R) : R 1232 2 = 1244 := h.1 _ (List.mem_of_getElem? (i := 51) (a := (1232, 2, 1244)) rfl)
theorem zX_r1244_0 {T : zT} {R : zR} (h : zXok T R) : R 1244 0 = 1245 := h.1 _ (List.mem_of_getElem? (i := 52) (a := (1244, 0, 1245)) rfl)
theorem zX_r1232_3 {T : zT} {R : zR} (h : zXok T R) : R 1232 3 = 1246 := h.1 _ (List.mem_of_getElem? (i := 53) (a := (1232, 3, 1246)) rfl)
theorem zX_r1246_0 {T : zT} {R : zR} (h : zXok T R) : R 1246 0 = 1247 := h.1 _ (List.mem_of_getElem? (i := 54) (a := (1246, 0, 1247)) rfl)
theorem zX_r1232_4 {T : zT} {R : zR} (h : zXok T R) : R 1232 4 = 1248 := h.1 _ (List.mem_of_getElem? (i := 55) (a := (1232, 4, 1248)) rfl)
theorem zX_r1248_0 {T : zT} {R : zR} (h : zXok T R) : R 1248 0 = 1249 := h.1 _ (List.mem_of_getElem? (i := 56) (a := (1248, 0, 1249)) rfl)
theorem zX_r1232_5 {T : zT} {R : zR} (h : zXok T R) : R 1232 5 = 1250 := h.1 _ (List.mem_of_getElem? (i := 57) (a := (1232, 5, 1250)) rfl)
theorem zX_r1250_0 {T : zT} {R : zR} (h : zXok T R) : R 1250 0 = 1251 := h.1 _ (List.mem_of_getElem? (i := 58) (a := (1250, 0, 1251)) rfl)
theorem zX_r1020_0 {T : zT} {R : zR} (h : zXok T R) : R 1020 0 = 1050 := h.1 _ (List.mem_of_getElem? (i := 59) (a := (1020, 0, 1050)) rfl)
theorem zX_r1022_0 {T : zT} {R : zR} (h : zXok T R) : R 1022 0 = 1051 := h.1 _ (List.mem_of_getElem? (i := 60) (a := (1022, 0, 1051)) rfl)
theorem zX_r1025_0 {T : zT} {R : zR} (h : zXok T R) : R 1025 0 = 1052 := h.1 _ (List.mem_of_getElem? (i := 61) (a := (1025, 0, 1052)) rfl)
theorem zX_r1010_0 {T : zT} {R : zR} (h : zXok T R) : R 1010 0 = 1030 := h.1 _ (List.mem_of_getElem? (i := 62) (a := (1010, 0, 1030)) rfl)
theorem zX_r1010_1 {T : zT} {R : zR} (h : zXok T R) : R 1010 1 = 1031 := h.1 _ (List.mem_of_getElem? (i := 63) (a := (1010, 1, 1031)) rfl)
theorem zX_r1010_2 {T : zT} {R : zR} (h : zXok T R) : R 1010 2 = 1032 := h.1 _ (List.mem_of_getElem? (i := 64) (a := (1010, 2, 1032)) rfl)
theorem zX_r1010_3 {T : zT} {R : zR} (h : zXok T R) : R 1010 3 = 1033 := h.1 _ (List.mem_of_getElem? (i := 65) (a := (1010, 3, 1033)) rfl)
theorem zX_r1018_0 {T : zT} {R : zR} (h : zXok T R) : R 1018 0 = 1040 := h.1 _ (List.mem_of_getElem? (i := 66) (a := (1018, 0, 1040)) rfl)
theorem zX_r1040_2 {T : zT} {R : zR} (h : zXok T R) : R 1040 2 = 1000 := h.1 _ (List.mem_of_getElem? (i := 67) (a := (1040, 2, 1000)) rfl)
theorem zX_r1018_1 {T : zT} {R : zR} (h : zXok T R) : R 1018 1 = 1041 := h.1 _ (List.mem_of_getElem? (i := 68) (a := (1018, 1, 1041)) rfl)
theorem zX_r1041_2 {T : zT} {R : zR} (h : zXok T R) : R 1041 2 = 1000 := h.1 _ (List.mem_of_getElem? (i := 69) (a := (1041, 2, 1000)) rfl)
theorem zX_t1000 {T : zT} {R : zR} (h : zXok T R) : T 1000 = (1, 0) := h.2 _ (List.mem_of_getElem? (i := 0) (a := (1000, 1, 0)) rfl)
theorem zX_t1001 {T : zT} {R : zR} (h : zXok T R) : T 1001 = (103, 800) := h.2 _ (List.mem_of_getElem? (i := 1) (a := (1001, 103, 800)) rfl)
theorem zX_t1010 {T : zT} {R : zR} (h : zXok T R) : T 1010 = (108, 4) := h.2 _ (List.mem_of_getElem? (i := 2) (a := (1010, 108, 4)) rfl)
theorem zX_t1013 {T : zT} {R : zR} (h : zXok T R) : T 1013 = (106, 20) := h.2 _ (List.mem_of_getElem? (i := 3) (a := (1013, 106, 20)) rfl)
theorem zX_t1014 {T : zT} {R : zR} (h : zXok T R) : T 1014 = (101, 6) := h.2 _ (List.mem_of_getElem? (i := 4) (a := (1014, 101, 6)) rfl)
theorem zX_t1016 {T : zT} {R : zR} (h : zXok T R) : T 1016 = (101, 13) := h.2 _ (List.mem_of_getElem? (i := 5) (a := (1016, 101, 13)) rfl)
theorem zX_t1017 {T : zT} {R : zR} (h : zXok T R) : T 1017 = (100, 13) := h.2 _ (List.mem_of_getElem? (i := 6) (a := (1017, 100, 13)) rfl)
theorem zX_t1018 {T : zT} {R : zR} (h : zXok T R) : T 1018 = (107, 2) := h.2 _ (List.mem_of_getElem? (i := 7) (a := (1018, 107, 2)) rfl)
theorem zX_t1019 {T : zT} {R : zR} (h : zXok T R) : T 1019 = (100, 48373) := h.2 _ (List.mem_of_getElem? (i := 8) (a := (1019, 100, 48373)) rfl)
theorem zX_t1026 {T : zT} {R : zR} (h : zXok T R) : T 1026 = (100, 6) := h.2 _ (List.mem_of_getElem? (i := 9) (a := (1026, 100, 6)) rfl)
theorem zX_t1027 {T : zT} {R : zR} (h : zXok T R) : T 1027 = (100, 6) := h.2 _ (List.mem_of_getElem? (i := 10) (a := (1027, 100, 6)) rfl)
theorem zX_t1008 {T : zT} {R : zR} (h : zXok T R) : T 1008 = (2, 0) := h.2 _ (List.mem_of_getElem? (i := 11) (a := (1008, 2, 0)) rfl)
theorem zX_t1200 {T : zT} {R : zR} (h : zXok T R) : T 1200 = (10, 0) := h.2 _ (List.mem_of_getElem? (i := 12) (a := (1200, 10, 0)) rfl)
theorem zX_t1230 {T : zT} {R : zR} (h : zXok T R) : T 1230 = (10, 0) := h.2 _ (List.mem_of_getElem? (i := 13) (a := (1230, 10, 0)) rfl)
theorem zX_t1020 {T : zT} {R : zR} (h : zXok T R) : T 1020 = (11, 0) := h.2 _ (List.mem_of_getElem? (i := 14) (a := (1020, 11, 0)) rfl)
theorem zX_t1022 {T : zT} {R : zR} (h : zXok T R) : T 1022 = (11, 0) := h.2 _ (List.mem_of_getElem? (i := 15) (a := (1022, 11, 0)) rfl)
theorem zX_t1025 {T : zT} {R : zR} (h : zXok T R) : T 1025 = (11, 0) := h.2 _ (List.mem_of_getElem? (i := 16) (a := (1025, 11, 0)) rfl)
theorem zX_t1201 {T : zT} {R : zR} (h : zXok T R) : T 1201 = (104, 2) := h.2 _ (List.mem_of_getElem? (i := 17) (a := (1201, 104, 2)) rfl)
theorem zX_t1202 {T : zT} {R : zR} (h : zXok T R) : T 1202 = (105, 6) := h.2 _ (List.mem_of_getElem? (i := 18) (a := (1202, 105, 6)) rfl)
theorem zX_t1203 {T : zT} {R : zR} (h : zXok T R) : T 1203 = (4, 0) := h.2 _ (List.mem_of_getElem? (i := 19) (a := (1203, 4, 0)) rfl)
theorem zX_t1204 {T : zT} {R : zR} (h : zXok T R) : T 1204 = (100, 12) := h.2 _ (List.mem_of_getElem? (i := 20) (a := (1204, 100, 12)) rfl)
theorem zX_t1205 {T : zT} {R : zR} (h : zXok T R) : T 1205 = (100, 12) := h.2 _ (List.mem_of_getElem? (i := 21) (a := (1205, 100, 12)) rfl)
theorem zX_t1206 {T : zT} {R : zR} (h : zXok T R) : T 1206 = (4, 0) := h.2 _ (List.mem_of_getElem? (i := 22) (a := (1206, 4, 0)) rfl)
theorem zX_t1207 {T : zT} {R : zR} (h : zXok T R) : T 1207 = (100, 12) := h.2 _ (List.mem_of_getElem? (i := 23) (a := (1207, 100, 12)) rfl)
theorem zX_t1208 {T : zT} {R : zR} (h : zXok T R) : T 1208 = (100, 12) := h.2 _ (List.mem_of_getElem? (i := 24) (a := (1208, 100, 12)) rfl)
theorem zX_t1210 {T : zT} {R : zR} (h : zXok T R) : T 1210 = (11, 0) := h.2 _ (List.mem_of_getElem? (i := 25) (a := (1210, 11, 0)) rfl)
theorem zX_t1211 {T : zT} {R : zR} (h : zXok T R) : T 1211 = (100, 12) := h.2 _ (List.mem_of_getElem? (i := 26) (a := (1211, 100, 12)) rfl)
theorem zX_t1212 {T : zT} {R : zR} (h : zXok T R) : T 1212 = (11, 0) := h.2 _ (List.mem_of_getElem? (i := 27) (a := (1212, 11, 0)) rfl)
theorem zX_t1213 {T : zT} {R : zR} (h : zXok T R) : T 1213 = (100, 12) := h.2 _ (List.mem_of_getElem? (i := 28) (a := (1213, 100, 12)) rfl)
theorem zX_t1214 {T : zT} {R : zR} (h : zXok T R) : T 1214 = (11, 0) := h.2 _ (List.mem_of_getElem? (i := 29) (a := (1214, 11, 0)) rfl)
theorem zX_t1215 {T : zT} {R : zR} (h : zXok T R) : T 1215 = (100, 12) := h.2 _ (List.mem_of_getElem? (i := 30) (a := (1215, 100, 12)) rfl)
theorem zX_t1216 {T : zT} {R : zR} (h : zXok T R) : T 1216 = (11, 0) := h.2 _ (List.mem_of_getElem? (i := 31) (a := (1216, 11, 0)) rfl)
theorem zX_t1217 {T : zT} {R : zR} (h : zXok T R) : T 1217 = (100, 12) := h.2 _ (List.mem_of_getElem? (i := 32) (a := (1217, 100, 12)) rfl)
theorem zX_t1218 {T : zT} {R : zR} (h : zXok T R) : T 1218 = (11, 0) := h.2 _ (List.mem_of_getElem? (i := 33) (a := (1218, 11, 0)) rfl)
theorem zX_t1219 {T : zT} {R : zR} (h : zXok T R) : T 1219 = (100, 12) := h.2 _ (List.mem_of_getElem? (i := 34) (a := (1219, 100, 12)) rfl)
theorem zX_t1220 {T : zT} {R : zR} (h : zXok T R) : T 1220 = (11, 0) := h.2 _ (List.mem_of_getElem? (i := 35) (a := (1220, 11, 0)) rfl)
theorem zX_t1221 {T : zT} {R : zR} (h : zXok T R) : T 1221 = (100, 12) := h.2 _ (List.mem_of_getElem? (i := 36) (a := (1221, 100, 12)) rfl)
theorem zX_t1231 {T : zT} {R : zR} (h : zXok T R) : T 1231 = (104, 2) := h.2 _ (List.mem_of_getElem? (i := 37) (a := (1231, 104, 2)) rfl)
theorem zX_t1232 {T : zT} {R : zR} (h : zXok T R) : T 1232 = (105, 6) := h.2 _ (List.mem_of_getElem? (i := 38) (a := (1232, 105, 6)) rfl)
theorem zX_t1233 {T : zT} {R : zR} (h : zXok T R) : T 1233 = (4, 0) := h.2 _ (List.mem_of_getElem? (i := 39) (a := (1233, 4, 0)) rfl)
theorem zX_t1234 {T : zT} {R : zR} (h : zXok T R) : T 1234 = (100, 12) := h.2 _ (List.mem_of_getElem? (i := 40) (a := (1234, 100, 12)) rfl)
theorem zX_t1235 {T : zT} {R : zR} (h : zXok T R) : T 1235 = (100, 12) := h.2 _ (List.mem_of_getElem? (i := 41) (a := (1235, 100, 12)) rfl)
theorem zX_t1236 {T : zT} {R : zR} (h : zXok T R) : T 1236 = (4, 0) := h.2 _ (List.mem_of_getElem? (i := 42) (a := (1236, 4, 0)) rfl)
theorem zX_t1237 {T : zT} {R : zR} (h : zXok T R) : T 1237 = (100, 12) := h.2 _ (List.mem_of_getElem? (i := 43) (a := (1237, 100, 12)) rfl)
theorem zX_t1238 {T : zT} {R : zR} (h : zXok T R) : T 1238 = (100, 12) := h.2 _ (List.mem_of_getElem? (i := 44) (a := (1238, 100, 12)) rfl)
theorem zX_t1240 {T : zT} {R : zR} (h : zXok T R) : T 1240 = (11, 0) := h.2 _ (List.mem_of_getElem? (i := 45) (a := (1240, 11, 0)) rfl)
theorem zX_t1241 {T : zT} {R : zR} (h : zXok T R) : T 1241 = (100, 12) := h.2 _ (List.mem_of_getElem? (i := 46) (a := (1241, 100, 12)) rfl)
theorem zX_t1242 {T : zT} {R : zR} (h : zXok T R) : T 1242 = (11, 0) := h.2 _ (List.mem_of_getElem? (i := 47) (a := (1242, 11, 0)) rfl)
theorem zX_t1243 {T : zT} {R : zR} (h : zXok T R) : T 1243 = (100, 12) := h.2 _ (List.mem_of_getElem? (i := 48) (a := (1243, 100, 12)) rfl)
theorem zX_t1244 {T : zT} {R : zR} (h : zXok T R) : T 1244 = (11, 0) := h.2 _ (List.mem_of_getElem? (i := 49) (a := (1244, 11, 0)) rfl)
theorem zX_t1245 {T : zT} {R : zR} (h : zXok T R) : T 1245 = (100, 12) := h.2 _ (List.mem_of_getElem? (i := 50) (a := (1245, 100, 12)) rfl)
theorem zX_t1246 {T : zT} {R : zR} (h : zXok T R) : T 1246 = (11, 0) := h.2 _ (List.mem_of_getElem? (i := 51) (a := (1246, 11, 0)) rfl)
theorem zX_t1247 {T : zT} {R : zR} (h : zXok T R) : T 1247 = (100, 12) := h.2 _ (List.mem_of_getElem? (i := 52) (a := (1247, 100, 12)) rfl)
theorem zX_t1248 {T : zT} {R : zR} (h : zXok T R) : T 1248 = (11, 0) := h.2 _ (List.mem_of_getElem? (i := 53) (a := (1248, 11, 0)) rfl)
theorem zX_t1249 {T : zT} {R : zR} (h : zXok T R) : T 1249 = (100, 12) := h.2 _ (List.mem_of_getElem? (i := 54) (a := (1249, 100, 12)) rfl)
theorem zX_t1250 {T : zT} {R : zR} (h : zXok T R) : T 1250 = (11, 0) := h.2 _ (List.mem_of_getElem? (i := 55) (a := (1250, 11, 0)) rfl)
theorem zX_t1251 {T : zT} {R : zR} (h : zXok T R) : T 1251 = (100, 12) := h.2 _ (List.mem_of_getElem? (i := 56) (a := (1251, 100, 12)) rfl)
theorem zX_t1050 {T : zT} {R : zR} (h : zXok T R) : T 1050 = (100, 12) := h.2 _ (List.mem_of_getElem? (i := 57) (a := (1050, 100, 12)) rfl)
theorem zX_t1051 {T : zT} {R : zR} (h : zXok T R) : T 1051 = (100, 12) := h.2 _ (List.mem_of_getElem? (i := 58) (a := (1051, 100, 12)) rfl)
theorem zX_t1052 {T : zT} {R : zR} (h : zXok T R) : T 1052 = (100, 12) := h.2 _ (List.mem_of_getElem? (i := 59) (a := (1052, 100, 12)) rfl)
theorem zX_t1030 {T : zT} {R : zR} (h : zXok T R) : T 1030 = (6, 0) := h.2 _ (List.mem_of_getElem? (i := 60) (a := (1030, 6, 0)) rfl)
theorem zX_t1031 {T : zT} {R : zR} (h : zXok T R) : T 1031 = (7, 0) := h.2 _ (List.mem_of_getElem? (i := 61) (a := (1031, 7, 0)) rfl)
theorem zX_t1032 {T : zT} {R : zR} (h : zXok T R) : T 1032 = (8, 0) := h.2 _ (List.mem_of_getElem? (i := 62) (a := (1032, 8, 0)) rfl)
theorem zX_t1033 {T : zT} {R : zR} (h : zXok T R) : T 1033 = (9, 0) := h.2 _ (List.mem_of_getElem? (i := 63) (a := (1033, 9, 0)) rfl)
theorem zX_t1040 {T : zT} {R : zR} (h : zXok T R) : T 1040 = (12, 0) := h.2 _ (List.mem_of_getElem? (i := 64) (a := (1040, 12, 0)) rfl)
theorem zX_t1041 {T : zT} {R : zR} (h : zXok T R) : T 1041 = (12, 0) := h.2 _ (List.mem_of_getElem? (i := 65) (a := (1041, 12, 0)) rfl)
theorem zm0_in (ws : List Cond) (ps : List Nat) (hp : ws = ps.filterMap (fun i => lw_tbl[i]?)) : ∀ w ∈ ws, w ∈ lw_tbl := by
  intro w h
  rw [hp] at h
  obtain ⟨i, -, hi⟩ := List.mem_filterMap.mp h
  exact List.mem_of_getElem? hi
theorem zm0_al {ws : List Cond} (h1 : ∀ w ∈ ws, w ∈ lw_tbl) (h2 : ws.all (fun w => goodWord w || (zisN w && w.onTables)) = true) : ∀ w ∈ ws, w ∈ lw_all ∨ (zisN w = true ∧ w.onTables = true) := by
  intro w h
  have h3 := List.all_eq_true.mp h2 w h
  rw [Bool.or_eq_true, Bool.and_eq_true] at h3
  exact h3.elim (fun q => Or.inl (List.mem_filter.mpr ⟨h1 w h, q⟩)) Or.inr
theorem zm0_X1_look_8_tbl : ∀ w ∈ vx_at0 "TwoTongues" 204 "java/lang/IndexOutOfBoundsException" ["java/lang/RuntimeException", "java/lang/Exception"], w ∈ lw_tbl := zm0_in _ [154, 763, 772, 778, 781, 783, 764, 765, 177, 178, 766, 771, 779, 799, 753, 800, 755, 801, 757, 767, 769, 759, 1480, 1481, 1482, 1483, 1457, 1483, 1484, 1485, 1486, 746, 1486, 1487, 1488, 764, 748, 1479, 1471, 1472, 1473, 776, 1474, 1475, 1476, 1477, 762, 761, 1478] (by decide +kernel)
theorem zm0_X1_look_8_all : ∀ w ∈ vx_at0 "TwoTongues" 204 "java/lang/IndexOutOfBoundsException" ["java/lang/RuntimeException", "java/lang/Exception"], w ∈ lw_all ∨ (zisN w = true ∧ w.onTables = true) := zm0_al zm0_X1_look_8_tbl (by decide +kernel)
theorem zm0_X1_look_109_tbl : ∀ w ∈ vx_at0 "TwoTongues" 214 "java/util/NoSuchElementException" ["java/lang/RuntimeException", "java/lang/Exception"], w ∈ lw_tbl := zm0_in _ [154, 763, 772, 778, 781, 783, 764, 765, 177, 178, 766, 771, 779, 799, 753, 800, 755, 801, 757, 767, 769, 759, 1501, 1502, 1503, 1483, 1457, 1483, 1484, 1485, 1486, 746, 1486, 1487, 1488, 764, 748, 1500, 1492, 1493, 1494, 777, 1495, 1496, 1497, 1498, 762, 761, 1499] (by decide +kernel)
theorem zm0_X1_look_109_all : ∀ w ∈ vx_at0 "TwoTongues" 214 "java/util/NoSuchElementException" ["java/lang/RuntimeException", "java/lang/Exception"], w ∈ lw_all ∨ (zisN w = true ∧ w.onTables = true) := zm0_al zm0_X1_look_109_tbl (by decide +kernel)
def zqI_ (T : zT) (I : zI) (L : zL) (R : zR) (K : Int32 → Prop) : zP := fun o v T1 I1 L1 R1 => o = 0 ∧ ∃ r, v = .int r ∧ T1 = T ∧ I1 = I ∧ L1 = L ∧ R1 = R ∧ K r
theorem zqI__i {T : zT} {I : zI} {L : zL} {R : zR}  {K : Int32 → Prop} {r : Int32} (h : K r) : zqI_ T I L R K 0 (.int r) T I L R := ⟨rfl, ⟨_, rfl, rfl, rfl, rfl, rfl, h⟩⟩
theorem zqI__k {M M2 : zM} {d b pc : Nat} {l : List (Nat × Value)} {st : List Value} {P0 : zP} {T : zT} {I : zI} {L : zL} {R : zR} {K : Int32 → Prop} (hr : M2.2.2.2.2.1.isNone = false) (h : ∀ (r : Int32) , K r → zAW M d b pc l (.int r :: st) T I L R P0) : ∀ (v : Value) (T1 : zT) (I1 : zI) (L1 : zL) (R1 : zR), zqI_ T I L R K 0 v T1 I1 L1 R1 → zAW M d b pc l (zvs M2 v ++ st) T1 I1 L1 R1 P0 := by
  intro v T1 I1 L1 R1 h9
  replace h9 := h9.2
  obtain ⟨r, rfl, rfl, rfl, rfl, rfl, h8⟩ := h9
  have e : zvs M2 (.int r) = [.int r] := by unfold zvs; rw [hr]; rfl
  rw [e]
  exact h r h8
def zqI_I (T : zT) (L : zL) (R : zR) (K : Int32 → zI → Prop) : zP := fun o v T1 I1 L1 R1 => o = 0 ∧ ∃ r, v = .int r ∧ T1 = T ∧ L1 = L ∧ R1 = R ∧ K r I1
theorem zqI_I_i {T : zT} {L : zL} {R : zR} {I1 : zI} {K : Int32 → zI → Prop} {r : Int32} (h : K r I1) : zqI_I T L R K 0 (.int r) T I1 L R := ⟨rfl, ⟨_, rfl, rfl, rfl, rfl, h⟩⟩
theorem zqI_I_k {M M2 : zM} {d b pc : Nat} {l : List (Nat × Value)} {st : List Value} {P0 : zP} {T : zT} {L : zL} {R : zR} {K : Int32 → zI → Prop} (hr : M2.2.2.2.2.1.isNone = false) (h : ∀ (r : Int32) (I1 : zI), K r I1 → zAW M d b pc l (.int r :: st) T I1 L R P0) : ∀ (v : Value) (T1 : zT) (I1 : zI) (L1 : zL) (R1 : zR), zqI_I T L R K 0 v T1 I1 L1 R1 → zAW M d b pc l (zvs M2 v ++ st) T1 I1 L1 R1 P0 := by
  intro v T1 I1 L1 R1 h9
  replace h9 := h9.2
  obtain ⟨r, rfl, rfl, rfl, rfl, h8⟩ := h9
  have e : zvs M2 (.int r) = [.int r] := by unfold zvs; rw [hr]; rfl
  rw [e]
  exact h r _ h8
def zqI_IL (T : zT) (R : zR) (K : Int32 → zI → zL → Prop) : zP := fun o v T1 I1 L1 R1 => o = 0 ∧ ∃ r, v = .int r ∧ T1 = T ∧ R1 = R ∧ K r I1 L1
theorem zqI_IL_i {T : zT} {R : zR} {I1 : zI} {L1 : zL} {K : Int32 → zI → zL → Prop} {r : Int32} (h : K r I1 L1) : zqI_IL T R K 0 (.int r) T I1 L1 R := ⟨rfl, ⟨_, rfl, rfl, rfl, h⟩⟩
theorem zqI_IL_k {M M2 : zM} {d b pc : Nat} {l : List (Nat × Value)} {st : List Value} {P0 : zP} {T : zT} {R : zR} {K : Int32 → zI → zL → Prop} (hr : M2.2.2.2.2.1.isNone = false) (h : ∀ (r : Int32) (I1 : zI) (L1 : zL), K r I1 L1 → zAW M d b pc l (.int r :: st) T I1 L1 R P0) : ∀ (v : Value) (T1 : zT) (I1 : zI) (L1 : zL) (R1 : zR), zqI_IL T R K 0 v T1 I1 L1 R1 → zAW M d b pc l (zvs M2 v ++ st) T1 I1 L1 R1 P0 := by
  intro v T1 I1 L1 R1 h9
  replace h9 := h9.2
  obtain ⟨r, rfl, rfl, rfl, h8⟩ := h9
  have e : zvs M2 (.int r) = [.int r] := by unfold zvs; rw [hr]; rfl
  rw [e]
  exact h r _ _ h8
def zqI_ILR (T : zT) (K : Int32 → zI → zL → zR → Prop) : zP := fun o v T1 I1 L1 R1 => o = 0 ∧ ∃ r, v = .int r ∧ T1 = T ∧ K r I1 L1 R1
theorem zqI_ILR_i {T : zT} {I1 : zI} {L1 : zL} {R1 : zR} {K : Int32 → zI → zL → zR → Prop} {r : Int32} (h : K r I1 L1 R1) : zqI_ILR T K 0 (.int r) T I1 L1 R1 := ⟨rfl, ⟨_, rfl, rfl, h⟩⟩
theorem zqI_ILR_k {M M2 : zM} {d b pc : Nat} {l : List (Nat × Value)} {st : List Value} {P0 : zP} {T : zT} {K : Int32 → zI → zL → zR → Prop} (hr : M2.2.2.2.2.1.isNone = false) (h : ∀ (r : Int32) (I1 : zI) (L1 : zL) (R1 : zR), K r I1 L1 R1 → zAW M d b pc l (.int r :: st) T I1 L1 R1 P0) : ∀ (v : Value) (T1 : zT) (I1 : zI) (L1 : zL) (R1 : zR), zqI_ILR T K 0 v T1 I1 L1 R1 → zAW M d b pc l (zvs M2 v ++ st) T1 I1 L1 R1 P0 := by
  intro v T1 I1 L1 R1 h9
  replace h9 := h9.2
  obtain ⟨r, rfl, rfl, h8⟩ := h9
  have e : zvs M2 (.int r) = [.int r] := by unfold zvs; rw [hr]; rfl
  rw [e]
  exact h r _ _ _ h8
def zqI_IR (T : zT) (L : zL) (K : Int32 → zI → zR → Prop) : zP := fun o v T1 I1 L1 R1 => o = 0 ∧ ∃ r, v = .int r ∧ T1 = T ∧ L1 = L ∧ K r I1 R1
theorem zqI_IR_i {T : zT} {L : zL} {I1 : zI} {R1 : zR} {K : Int32 → zI → zR → Prop} {r : Int32} (h : K r I1 R1) : zqI_IR T L K 0 (.int r) T I1 L R1 := ⟨rfl, ⟨_, rfl, rfl, rfl, h⟩⟩
theorem zqI_IR_k {M M2 : zM} {d b pc : Nat} {l : List (Nat × Value)} {st : List Value} {P0 : zP} {T : zT} {L : zL} {K : Int32 → zI → zR → Prop} (hr : M2.2.2.2.2.1.isNone = false) (h : ∀ (r : Int32) (I1 : zI) (R1 : zR), K r I1 R1 → zAW M d b pc l (.int r :: st) T I1 L R1 P0) : ∀ (v : Value) (T1 : zT) (I1 : zI) (L1 : zL) (R1 : zR), zqI_IR T L K 0 v T1 I1 L1 R1 → zAW M d b pc l (zvs M2 v ++ st) T1 I1 L1 R1 P0 := by
  intro v T1 I1 L1 R1 h9
  replace h9 := h9.2
  obtain ⟨r, rfl, rfl, rfl, h8⟩ := h9
  have e : zvs M2 (.int r) = [.int r] := by unfold zvs; rw [hr]; rfl
  rw [e]
  exact h r _ _ h8
def zqI_L (T : zT) (I : zI) (R : zR) (K : Int32 → zL → Prop) : zP := fun o v T1 I1 L1 R1 => o = 0 ∧ ∃ r, v = .int r ∧ T1 = T ∧ I1 = I ∧ R1 = R ∧ K r L1
theorem zqI_L_i {T : zT} {I : zI} {R : zR} {L1 : zL} {K : Int32 → zL → Prop} {r : Int32} (h : K r L1) : zqI_L T I R K 0 (.int r) T I L1 R := ⟨rfl, ⟨_, rfl, rfl, rfl, rfl, h⟩⟩
theorem zqI_L_k {M M2 : zM} {d b pc : Nat} {l : List (Nat × Value)} {st : List Value} {P0 : zP} {T : zT} {I : zI} {R : zR} {K : Int32 → zL → Prop} (hr : M2.2.2.2.2.1.isNone = false) (h : ∀ (r : Int32) (L1 : zL), K r L1 → zAW M d b pc l (.int r :: st) T I L1 R P0) : ∀ (v : Value) (T1 : zT) (I1 : zI) (L1 : zL) (R1 : zR), zqI_L T I R K 0 v T1 I1 L1 R1 → zAW M d b pc l (zvs M2 v ++ st) T1 I1 L1 R1 P0 := by
  intro v T1 I1 L1 R1 h9
  replace h9 := h9.2
  obtain ⟨r, rfl, rfl, rfl, rfl, h8⟩ := h9
  have e : zvs M2 (.int r) = [.int r] := by unfold zvs; rw [hr]; rfl
  rw [e]
  exact h r _ h8
def zqI_TILR  (K : Int32 → zT → zI → zL → zR → Prop) : zP := fun o v T1 I1 L1 R1 => o = 0 ∧ ∃ r, v = .int r ∧ K r T1 I1 L1 R1
theorem zqI_TILR_i  {T1 : zT} {I1 : zI} {L1 : zL} {R1 : zR} {K : Int32 → zT → zI → zL → zR → Prop} {r : Int32} (h : K r T1 I1 L1 R1) : zqI_TILR  K 0 (.int r) T1 I1 L1 R1 := ⟨rfl, ⟨_, rfl, h⟩⟩
theorem zqI_TILR_k {M M2 : zM} {d b pc : Nat} {l : List (Nat × Value)} {st : List Value} {P0 : zP}  {K : Int32 → zT → zI → zL → zR → Prop} (hr : M2.2.2.2.2.1.isNone = false) (h : ∀ (r : Int32) (T1 : zT) (I1 : zI) (L1 : zL) (R1 : zR), K r T1 I1 L1 R1 → zAW M d b pc l (.int r :: st) T1 I1 L1 R1 P0) : ∀ (v : Value) (T1 : zT) (I1 : zI) (L1 : zL) (R1 : zR), zqI_TILR  K 0 v T1 I1 L1 R1 → zAW M d b pc l (zvs M2 v ++ st) T1 I1 L1 R1 P0 := by
  intro v T1 I1 L1 R1 h9
  replace h9 := h9.2
  obtain ⟨r, rfl, h8⟩ := h9
  have e : zvs M2 (.int r) = [.int r] := by unfold zvs; rw [hr]; rfl
  rw [e]
  exact h r _ _ _ _ h8
def zqI_TILRx  (P : zP) (K : Int32 → zT → zI → zL → zR → Prop) : zP := fun o v T1 I1 L1 R1 => (o = 0 → ∃ r, v = .int r ∧ K r T1 I1 L1 R1) ∧ (o ≠ 0 → P o v T1 I1 L1 R1)
theorem zqI_TILRx_i  {T1 : zT} {I1 : zI} {L1 : zL} {R1 : zR} {P : zP} {K : Int32 → zT → zI → zL → zR → Prop} {r : Int32} (h : K r T1 I1 L1 R1) : zqI_TILRx  P K 0 (.int r) T1 I1 L1 R1 := ⟨fun _ => ⟨_, rfl, h⟩, fun h9 => absurd rfl h9⟩
theorem zqI_TILRx_k {M M2 : zM} {d b pc : Nat} {l : List (Nat × Value)} {st : List Value} {P0 : zP}  {P : zP} {K : Int32 → zT → zI → zL → zR → Prop} (hr : M2.2.2.2.2.1.isNone = false) (h : ∀ (r : Int32) (T1 : zT) (I1 : zI) (L1 : zL) (R1 : zR), K r T1 I1 L1 R1 → zAW M d b pc l (.int r :: st) T1 I1 L1 R1 P0) : ∀ (v : Value) (T1 : zT) (I1 : zI) (L1 : zL) (R1 : zR), zqI_TILRx  P K 0 v T1 I1 L1 R1 → zAW M d b pc l (zvs M2 v ++ st) T1 I1 L1 R1 P0 := by
  intro v T1 I1 L1 R1 h9
  replace h9 := h9.1 rfl
  obtain ⟨r, rfl, h8⟩ := h9
  have e : zvs M2 (.int r) = [.int r] := by unfold zvs; rw [hr]; rfl
  rw [e]
  exact h r _ _ _ _ h8
def zqJ_ (T : zT) (I : zI) (L : zL) (R : zR) (K : Int64 → Prop) : zP := fun o v T1 I1 L1 R1 => o = 0 ∧ ∃ r, v = .long r ∧ T1 = T ∧ I1 = I ∧ L1 = L ∧ R1 = R ∧ K r
theorem zqJ__i {T : zT} {I : zI} {L : zL} {R : zR}  {K : Int64 → Prop} {r : Int64} (h : K r) : zqJ_ T I L R K 0 (.long r) T I L R := ⟨rfl, ⟨_, rfl, rfl, rfl, rfl, rfl, h⟩⟩
theorem zqJ__k {M M2 : zM} {d b pc : Nat} {l : List (Nat × Value)} {st : List Value} {P0 : zP} {T : zT} {I : zI} {L : zL} {R : zR} {K : Int64 → Prop} (hr : M2.2.2.2.2.1.isNone = false) (h : ∀ (r : Int64) , K r → zAW M d b pc l (.long r :: st) T I L R P0) : ∀ (v : Value) (T1 : zT) (I1 : zI) (L1 : zL) (R1 : zR), zqJ_ T I L R K 0 v T1 I1 L1 R1 → zAW M d b pc l (zvs M2 v ++ st) T1 I1 L1 R1 P0 := by
  intro v T1 I1 L1 R1 h9
  replace h9 := h9.2
  obtain ⟨r, rfl, rfl, rfl, rfl, rfl, h8⟩ := h9
  have e : zvs M2 (.long r) = [.long r] := by unfold zvs; rw [hr]; rfl
  rw [e]
  exact h r h8
def zqJ_x (T : zT) (I : zI) (L : zL) (R : zR) (P : zP) (K : Int64 → Prop) : zP := fun o v T1 I1 L1 R1 => (o = 0 → ∃ r, v = .long r ∧ T1 = T ∧ I1 = I ∧ L1 = L ∧ R1 = R ∧ K r) ∧ (o ≠ 0 → P o v T1 I1 L1 R1)
theorem zqJ_x_i {T : zT} {I : zI} {L : zL} {R : zR}  {P : zP} {K : Int64 → Prop} {r : Int64} (h : K r) : zqJ_x T I L R P K 0 (.long r) T I L R := ⟨fun _ => ⟨_, rfl, rfl, rfl, rfl, rfl, h⟩, fun h9 => absurd rfl h9⟩
theorem zqJ_x_k {M M2 : zM} {d b pc : Nat} {l : List (Nat × Value)} {st : List Value} {P0 : zP} {T : zT} {I : zI} {L : zL} {R : zR} {P : zP} {K : Int64 → Prop} (hr : M2.2.2.2.2.1.isNone = false) (h : ∀ (r : Int64) , K r → zAW M d b pc l (.long r :: st) T I L R P0) : ∀ (v : Value) (T1 : zT) (I1 : zI) (L1 : zL) (R1 : zR), zqJ_x T I L R P K 0 v T1 I1 L1 R1 → zAW M d b pc l (zvs M2 v ++ st) T1 I1 L1 R1 P0 := by
  intro v T1 I1 L1 R1 h9
  replace h9 := h9.1 rfl
  obtain ⟨r, rfl, rfl, rfl, rfl, rfl, h8⟩ := h9
  have e : zvs M2 (.long r) = [.long r] := by unfold zvs; rw [hr]; rfl
  rw [e]
  exact h r h8
def zqJ_I (T : zT) (L : zL) (R : zR) (K : Int64 → zI → Prop) : zP := fun o v T1 I1 L1 R1 => o = 0 ∧ ∃ r, v = .long r ∧ T1 = T ∧ L1 = L ∧ R1 = R ∧ K r I1
theorem zqJ_I_i {T : zT} {L : zL} {R : zR} {I1 : zI} {K : Int64 → zI → Prop} {r : Int64} (h : K r I1) : zqJ_I T L R K 0 (.long r) T I1 L R := ⟨rfl, ⟨_, rfl, rfl, rfl, rfl, h⟩⟩
theorem zqJ_I_k {M M2 : zM} {d b pc : Nat} {l : List (Nat × Value)} {st : List Value} {P0 : zP} {T : zT} {L : zL} {R : zR} {K : Int64 → zI → Prop} (hr : M2.2.2.2.2.1.isNone = false) (h : ∀ (r : Int64) (I1 : zI), K r I1 → zAW M d b pc l (.long r :: st) T I1 L R P0) : ∀ (v : Value) (T1 : zT) (I1 : zI) (L1 : zL) (R1 : zR), zqJ_I T L R K 0 v T1 I1 L1 R1 → zAW M d b pc l (zvs M2 v ++ st) T1 I1 L1 R1 P0 := by
  intro v T1 I1 L1 R1 h9
  replace h9 := h9.2
  obtain ⟨r, rfl, rfl, rfl, rfl, h8⟩ := h9
  have e : zvs M2 (.long r) = [.long r] := by unfold zvs; rw [hr]; rfl
  rw [e]
  exact h r _ h8
def zqJ_IL (T : zT) (R : zR) (K : Int64 → zI → zL → Prop) : zP := fun o v T1 I1 L1 R1 => o = 0 ∧ ∃ r, v = .long r ∧ T1 = T ∧ R1 = R ∧ K r I1 L1
theorem zqJ_IL_i {T : zT} {R : zR} {I1 : zI} {L1 : zL} {K : Int64 → zI → zL → Prop} {r : Int64} (h : K r I1 L1) : zqJ_IL T R K 0 (.long r) T I1 L1 R := ⟨rfl, ⟨_, rfl, rfl, rfl, h⟩⟩
theorem zqJ_IL_k {M M2 : zM} {d b pc : Nat} {l : List (Nat × Value)} {st : List Value} {P0 : zP} {T : zT} {R : zR} {K : Int64 → zI → zL → Prop} (hr : M2.2.2.2.2.1.isNone = false) (h : ∀ (r : Int64) (I1 : zI) (L1 : zL), K r I1 L1 → zAW M d b pc l (.long r :: st) T I1 L1 R P0) : ∀ (v : Value) (T1 : zT) (I1 : zI) (L1 : zL) (R1 : zR), zqJ_IL T R K 0 v T1 I1 L1 R1 → zAW M d b pc l (zvs M2 v ++ st) T1 I1 L1 R1 P0 := by
  intro v T1 I1 L1 R1 h9
  replace h9 := h9.2
  obtain ⟨r, rfl, rfl, rfl, h8⟩ := h9
  have e : zvs M2 (.long r) = [.long r] := by unfold zvs; rw [hr]; rfl
  rw [e]
  exact h r _ _ h8
def zqJ_ILR (T : zT) (K : Int64 → zI → zL → zR → Prop) : zP := fun o v T1 I1 L1 R1 => o = 0 ∧ ∃ r, v = .long r ∧ T1 = T ∧ K r I1 L1 R1
theorem zqJ_ILR_i {T : zT} {I1 : zI} {L1 : zL} {R1 : zR} {K : Int64 → zI → zL → zR → Prop} {r : Int64} (h : K r I1 L1 R1) : zqJ_ILR T K 0 (.long r) T I1 L1 R1 := ⟨rfl, ⟨_, rfl, rfl, h⟩⟩
theorem zqJ_ILR_k {M M2 : zM} {d b pc : Nat} {l : List (Nat × Value)} {st : List Value} {P0 : zP} {T : zT} {K : Int64 → zI → zL → zR → Prop} (hr : M2.2.2.2.2.1.isNone = false) (h : ∀ (r : Int64) (I1 : zI) (L1 : zL) (R1 : zR), K r I1 L1 R1 → zAW M d b pc l (.long r :: st) T I1 L1 R1 P0) : ∀ (v : Value) (T1 : zT) (I1 : zI) (L1 : zL) (R1 : zR), zqJ_ILR T K 0 v T1 I1 L1 R1 → zAW M d b pc l (zvs M2 v ++ st) T1 I1 L1 R1 P0 := by
  intro v T1 I1 L1 R1 h9
  replace h9 := h9.2
  obtain ⟨r, rfl, rfl, h8⟩ := h9
  have e : zvs M2 (.long r) = [.long r] := by unfold zvs; rw [hr]; rfl
  rw [e]
  exact h r _ _ _ h8
def zqJ_IR (T : zT) (L : zL) (K : Int64 → zI → zR → Prop) : zP := fun o v T1 I1 L1 R1 => o = 0 ∧ ∃ r, v = .long r ∧ T1 = T ∧ L1 = L ∧ K r I1 R1
theorem zqJ_IR_i {T : zT} {L : zL} {I1 : zI} {R1 : zR} {K : Int64 → zI → zR → Prop} {r : Int64} (h : K r I1 R1) : zqJ_IR T L K 0 (.long r) T I1 L R1 := ⟨rfl, ⟨_, rfl, rfl, rfl, h⟩⟩
theorem zqJ_IR_k {M M2 : zM} {d b pc : Nat} {l : List (Nat × Value)} {st : List Value} {P0 : zP} {T : zT} {L : zL} {K : Int64 → zI → zR → Prop} (hr : M2.2.2.2.2.1.isNone = false) (h : ∀ (r : Int64) (I1 : zI) (R1 : zR), K r I1 R1 → zAW M d b pc l (.long r :: st) T I1 L R1 P0) : ∀ (v : Value) (T1 : zT) (I1 : zI) (L1 : zL) (R1 : zR), zqJ_IR T L K 0 v T1 I1 L1 R1 → zAW M d b pc l (zvs M2 v ++ st) T1 I1 L1 R1 P0 := by
  intro v T1 I1 L1 R1 h9
  replace h9 := h9.2
  obtain ⟨r, rfl, rfl, rfl, h8⟩ := h9
  have e : zvs M2 (.long r) = [.long r] := by unfold zvs; rw [hr]; rfl
  rw [e]
  exact h r _ _ h8
def zqR_ (T : zT) (I : zI) (L : zL) (R : zR) (K : Nat → Prop) : zP := fun o v T1 I1 L1 R1 => o = 0 ∧ ∃ r, v = .ref r ∧ T1 = T ∧ I1 = I ∧ L1 = L ∧ R1 = R ∧ K r
theorem zqR__i {T : zT} {I : zI} {L : zL} {R : zR}  {K : Nat → Prop} {r : Nat} (h : K r) : zqR_ T I L R K 0 (.ref r) T I L R := ⟨rfl, ⟨_, rfl, rfl, rfl, rfl, rfl, h⟩⟩
theorem zqR__k {M M2 : zM} {d b pc : Nat} {l : List (Nat × Value)} {st : List Value} {P0 : zP} {T : zT} {I : zI} {L : zL} {R : zR} {K : Nat → Prop} (hr : M2.2.2.2.2.1.isNone = false) (h : ∀ (r : Nat) , K r → zAW M d b pc l (.ref r :: st) T I L R P0) : ∀ (v : Value) (T1 : zT) (I1 : zI) (L1 : zL) (R1 : zR), zqR_ T I L R K 0 v T1 I1 L1 R1 → zAW M d b pc l (zvs M2 v ++ st) T1 I1 L1 R1 P0 := by
  intro v T1 I1 L1 R1 h9
  replace h9 := h9.2
  obtain ⟨r, rfl, rfl, rfl, rfl, rfl, h8⟩ := h9
  have e : zvs M2 (.ref r) = [.ref r] := by unfold zvs; rw [hr]; rfl
  rw [e]
  exact h r h8
def zqR_TILR  (K : Nat → zT → zI → zL → zR → Prop) : zP := fun o v T1 I1 L1 R1 => o = 0 ∧ ∃ r, v = .ref r ∧ K r T1 I1 L1 R1
theorem zqR_TILR_i  {T1 : zT} {I1 : zI} {L1 : zL} {R1 : zR} {K : Nat → zT → zI → zL → zR → Prop} {r : Nat} (h : K r T1 I1 L1 R1) : zqR_TILR  K 0 (.ref r) T1 I1 L1 R1 := ⟨rfl, ⟨_, rfl, h⟩⟩
theorem zqR_TILR_k {M M2 : zM} {d b pc : Nat} {l : List (Nat × Value)} {st : List Value} {P0 : zP}  {K : Nat → zT → zI → zL → zR → Prop} (hr : M2.2.2.2.2.1.isNone = false) (h : ∀ (r : Nat) (T1 : zT) (I1 : zI) (L1 : zL) (R1 : zR), K r T1 I1 L1 R1 → zAW M d b pc l (.ref r :: st) T1 I1 L1 R1 P0) : ∀ (v : Value) (T1 : zT) (I1 : zI) (L1 : zL) (R1 : zR), zqR_TILR  K 0 v T1 I1 L1 R1 → zAW M d b pc l (zvs M2 v ++ st) T1 I1 L1 R1 P0 := by
  intro v T1 I1 L1 R1 h9
  replace h9 := h9.2
  obtain ⟨r, rfl, h8⟩ := h9
  have e : zvs M2 (.ref r) = [.ref r] := by unfold zvs; rw [hr]; rfl
  rw [e]
  exact h r _ _ _ _ h8
def zqR_TILRx  (P : zP) (K : Nat → zT → zI → zL → zR → Prop) : zP := fun o v T1 I1 L1 R1 => (o = 0 → ∃ r, v = .ref r ∧ K r T1 I1 L1 R1) ∧ (o ≠ 0 → P o v T1 I1 L1 R1)
theorem zqR_TILRx_i  {T1 : zT} {I1 : zI} {L1 : zL} {R1 : zR} {P : zP} {K : Nat → zT → zI → zL → zR → Prop} {r : Nat} (h : K r T1 I1 L1 R1) : zqR_TILRx  P K 0 (.ref r) T1 I1 L1 R1 := ⟨fun _ => ⟨_, rfl, h⟩, fun h9 => absurd rfl h9⟩
theorem zqR_TILRx_k {M M2 : zM} {d b pc : Nat} {l : List (Nat × Value)} {st : List Value} {P0 : zP}  {P : zP} {K : Nat → zT → zI → zL → zR → Prop} (hr : M2.2.2.2.2.1.isNone = false) (h : ∀ (r : Nat) (T1 : zT) (I1 : zI) (L1 : zL) (R1 : zR), K r T1 I1 L1 R1 → zAW M d b pc l (.ref r :: st) T1 I1 L1 R1 P0) : ∀ (v : Value) (T1 : zT) (I1 : zI) (L1 : zL) (R1 : zR), zqR_TILRx  P K 0 v T1 I1 L1 R1 → zAW M d b pc l (zvs M2 v ++ st) T1 I1 L1 R1 P0 := by
  intro v T1 I1 L1 R1 h9
  replace h9 := h9.1 rfl
  obtain ⟨r, rfl, h8⟩ := h9
  have e : zvs M2 (.ref r) = [.ref r] := by unfold zvs; rw [hr]; rfl
  rw [e]
  exact h r _ _ _ _ h8
def zqV_ (T : zT) (I : zI) (L : zL) (R : zR) (K : Prop) : zP := fun o v T1 I1 L1 R1 => o = 0 ∧ T1 = T ∧ I1 = I ∧ L1 = L ∧ R1 = R ∧ K
theorem zqV__i {T : zT} {I : zI} {L : zL} {R : zR}  {K : Prop} {v : Value} (h : K) : zqV_ T I L R K 0 v T I L R := ⟨rfl, ⟨rfl, rfl, rfl, rfl, h⟩⟩
theorem zqV__k {M M2 : zM} {d b pc : Nat} {l : List (Nat × Value)} {st : List Value} {P0 : zP} {T : zT} {I : zI} {L : zL} {R : zR} {K : Prop} (hr : M2.2.2.2.2.1.isNone = true) (h : K → zAW M d b pc l st T I L R P0) : ∀ (v : Value) (T1 : zT) (I1 : zI) (L1 : zL) (R1 : zR), zqV_ T I L R K 0 v T1 I1 L1 R1 → zAW M d b pc l (zvs M2 v ++ st) T1 I1 L1 R1 P0 := by
  intro v T1 I1 L1 R1 h9
  replace h9 := h9.2
  obtain ⟨rfl, rfl, rfl, rfl, h8⟩ := h9
  have e : zvs M2 v = [] := by unfold zvs; rw [hr]; rfl
  rw [e]
  exact h  h8
def zqV_I (T : zT) (L : zL) (R : zR) (K : zI → Prop) : zP := fun o v T1 I1 L1 R1 => o = 0 ∧ T1 = T ∧ L1 = L ∧ R1 = R ∧ K I1
theorem zqV_I_i {T : zT} {L : zL} {R : zR} {I1 : zI} {K : zI → Prop} {v : Value} (h : K I1) : zqV_I T L R K 0 v T I1 L R := ⟨rfl, ⟨rfl, rfl, rfl, h⟩⟩
theorem zqV_I_k {M M2 : zM} {d b pc : Nat} {l : List (Nat × Value)} {st : List Value} {P0 : zP} {T : zT} {L : zL} {R : zR} {K : zI → Prop} (hr : M2.2.2.2.2.1.isNone = true) (h : ∀ (I1 : zI), K I1 → zAW M d b pc l st T I1 L R P0) : ∀ (v : Value) (T1 : zT) (I1 : zI) (L1 : zL) (R1 : zR), zqV_I T L R K 0 v T1 I1 L1 R1 → zAW M d b pc l (zvs M2 v ++ st) T1 I1 L1 R1 P0 := by
  intro v T1 I1 L1 R1 h9
  replace h9 := h9.2
  obtain ⟨rfl, rfl, rfl, h8⟩ := h9
  have e : zvs M2 v = [] := by unfold zvs; rw [hr]; rfl
  rw [e]
  exact h _ h8
def zqV_IL (T : zT) (R : zR) (K : zI → zL → Prop) : zP := fun o v T1 I1 L1 R1 => o = 0 ∧ T1 = T ∧ R1 = R ∧ K I1 L1
theorem zqV_IL_i {T : zT} {R : zR} {I1 : zI} {L1 : zL} {K : zI → zL → Prop} {v : Value} (h : K I1 L1) : zqV_IL T R K 0 v T I1 L1 R := ⟨rfl, ⟨rfl, rfl, h⟩⟩
theorem zqV_IL_k {M M2 : zM} {d b pc : Nat} {l : List (Nat × Value)} {st : List Value} {P0 : zP} {T : zT} {R : zR} {K : zI → zL → Prop} (hr : M2.2.2.2.2.1.isNone = true) (h : ∀ (I1 : zI) (L1 : zL), K I1 L1 → zAW M d b pc l st T I1 L1 R P0) : ∀ (v : Value) (T1 : zT) (I1 : zI) (L1 : zL) (R1 : zR), zqV_IL T R K 0 v T1 I1 L1 R1 → zAW M d b pc l (zvs M2 v ++ st) T1 I1 L1 R1 P0 := by
  intro v T1 I1 L1 R1 h9
  replace h9 := h9.2
  obtain ⟨rfl, rfl, h8⟩ := h9
  have e : zvs M2 v = [] := by unfold zvs; rw [hr]; rfl
  rw [e]
  exact h _ _ h8
def zqV_IR (T : zT) (L : zL) (K : zI → zR → Prop) : zP := fun o v T1 I1 L1 R1 => o = 0 ∧ T1 = T ∧ L1 = L ∧ K I1 R1
theorem zqV_IR_i {T : zT} {L : zL} {I1 : zI} {R1 : zR} {K : zI → zR → Prop} {v : Value} (h : K I1 R1) : zqV_IR T L K 0 v T I1 L R1 := ⟨rfl, ⟨rfl, rfl, h⟩⟩
theorem zqV_IR_k {M M2 : zM} {d b pc : Nat} {l : List (Nat × Value)} {st : List Value} {P0 : zP} {T : zT} {L : zL} {K : zI → zR → Prop} (hr : M2.2.2.2.2.1.isNone = true) (h : ∀ (I1 : zI) (R1 : zR), K I1 R1 → zAW M d b pc l st T I1 L R1 P0) : ∀ (v : Value) (T1 : zT) (I1 : zI) (L1 : zL) (R1 : zR), zqV_IR T L K 0 v T1 I1 L1 R1 → zAW M d b pc l (zvs M2 v ++ st) T1 I1 L1 R1 P0 := by
  intro v T1 I1 L1 R1 h9
  replace h9 := h9.2
  obtain ⟨rfl, rfl, h8⟩ := h9
  have e : zvs M2 v = [] := by unfold zvs; rw [hr]; rfl
  rw [e]
  exact h _ _ h8
def zqV_R (T : zT) (I : zI) (L : zL) (K : zR → Prop) : zP := fun o v T1 I1 L1 R1 => o = 0 ∧ T1 = T ∧ I1 = I ∧ L1 = L ∧ K R1
theorem zqV_R_i {T : zT} {I : zI} {L : zL} {R1 : zR} {K : zR → Prop} {v : Value} (h : K R1) : zqV_R T I L K 0 v T I L R1 := ⟨rfl, ⟨rfl, rfl, rfl, h⟩⟩
theorem zqV_R_k {M M2 : zM} {d b pc : Nat} {l : List (Nat × Value)} {st : List Value} {P0 : zP} {T : zT} {I : zI} {L : zL} {K : zR → Prop} (hr : M2.2.2.2.2.1.isNone = true) (h : ∀ (R1 : zR), K R1 → zAW M d b pc l st T I L R1 P0) : ∀ (v : Value) (T1 : zT) (I1 : zI) (L1 : zL) (R1 : zR), zqV_R T I L K 0 v T1 I1 L1 R1 → zAW M d b pc l (zvs M2 v ++ st) T1 I1 L1 R1 P0 := by
  intro v T1 I1 L1 R1 h9
  replace h9 := h9.2
  obtain ⟨rfl, rfl, rfl, h8⟩ := h9
  have e : zvs M2 v = [] := by unfold zvs; rw [hr]; rfl
  rw [e]
  exact h _ h8
def zqV_TILR  (K : zT → zI → zL → zR → Prop) : zP := fun o v T1 I1 L1 R1 => o = 0 ∧ K T1 I1 L1 R1
theorem zqV_TILR_i  {T1 : zT} {I1 : zI} {L1 : zL} {R1 : zR} {K : zT → zI → zL → zR → Prop} {v : Value} (h : K T1 I1 L1 R1) : zqV_TILR  K 0 v T1 I1 L1 R1 := ⟨rfl, h⟩
theorem zqV_TILR_k {M M2 : zM} {d b pc : Nat} {l : List (Nat × Value)} {st : List Value} {P0 : zP}  {K : zT → zI → zL → zR → Prop} (hr : M2.2.2.2.2.1.isNone = true) (h : ∀ (T1 : zT) (I1 : zI) (L1 : zL) (R1 : zR), K T1 I1 L1 R1 → zAW M d b pc l st T1 I1 L1 R1 P0) : ∀ (v : Value) (T1 : zT) (I1 : zI) (L1 : zL) (R1 : zR), zqV_TILR  K 0 v T1 I1 L1 R1 → zAW M d b pc l (zvs M2 v ++ st) T1 I1 L1 R1 P0 := by
  intro v T1 I1 L1 R1 h9
  replace h9 := h9.2
  skip
  have e : zvs M2 v = [] := by unfold zvs; rw [hr]; rfl
  rw [e]
  exact h _ _ _ _ h9
def zqV_TILRx  (P : zP) (K : zT → zI → zL → zR → Prop) : zP := fun o v T1 I1 L1 R1 => (o = 0 → K T1 I1 L1 R1) ∧ (o ≠ 0 → P o v T1 I1 L1 R1)
theorem zqV_TILRx_i  {T1 : zT} {I1 : zI} {L1 : zL} {R1 : zR} {P : zP} {K : zT → zI → zL → zR → Prop} {v : Value} (h : K T1 I1 L1 R1) : zqV_TILRx  P K 0 v T1 I1 L1 R1 := ⟨fun _ => h, fun h9 => absurd rfl h9⟩
theorem zqV_TILRx_k {M M2 : zM} {d b pc : Nat} {l : List (Nat × Value)} {st : List Value} {P0 : zP}  {P : zP} {K : zT → zI → zL → zR → Prop} (hr : M2.2.2.2.2.1.isNone = true) (h : ∀ (T1 : zT) (I1 : zI) (L1 : zL) (R1 : zR), K T1 I1 L1 R1 → zAW M d b pc l st T1 I1 L1 R1 P0) : ∀ (v : Value) (T1 : zT) (I1 : zI) (L1 : zL) (R1 : zR), zqV_TILRx  P K 0 v T1 I1 L1 R1 → zAW M d b pc l (zvs M2 v ++ st) T1 I1 L1 R1 P0 := by
  intro v T1 I1 L1 R1 h9
  replace h9 := h9.1 rfl
  skip
  have e : zvs M2 v = [] := by unfold zvs; rw [hr]; rfl
  rw [e]
  exact h _ _ _ _ h9
theorem hdx_kind : "TwoTongues$Kind" ≠ "java/lang/invoke/MethodHandle" ∧ "TwoTongues$Kind" ≠ "java/lang/invoke/VarHandle" ∧ (parseMethodDescriptor (⟨"TwoTongues$Kind", "isFromRight", "(I)Z"⟩ : MethodName).desc).map (fun d => d.parameters.length) = some 1 := ⟨by decide +kernel, by decide +kernel, by decide +kernel⟩
theorem hdx_part : "TwoTongues$Part" ≠ "java/lang/invoke/MethodHandle" ∧ "TwoTongues$Part" ≠ "java/lang/invoke/VarHandle" ∧ (parseMethodDescriptor (⟨"TwoTongues$Part", "of", "([J)J"⟩ : MethodName).desc).map (fun d => d.parameters.length) = some 1 := ⟨by decide +kernel, by decide +kernel, by decide +kernel⟩
abbrev mJ0_init : zM := (RJ0, yJ0_init, cJ0_init, 1, none, [], none)
theorem hd_J0_init : mJ0_init.2.1.cls ≠ "java/lang/invoke/MethodHandle" ∧ mJ0_init.2.1.cls ≠ "java/lang/invoke/VarHandle" ∧ (parseMethodDescriptor mJ0_init.2.1.desc).map (fun d => d.parameters.length) = some 0 := ⟨by decide +kernel, by decide +kernel, by decide +kernel⟩
abbrev mJ1_init : zM := (RJ1, yJ1_init, cJ1_init, 1, none, [], none)
theorem hd_J1_init : mJ1_init.2.1.cls ≠ "java/lang/invoke/MethodHandle" ∧ mJ1_init.2.1.cls ≠ "java/lang/invoke/VarHandle" ∧ (parseMethodDescriptor mJ1_init.2.1.desc).map (fun d => d.parameters.length) = some 0 := ⟨by decide +kernel, by decide +kernel, by decide +kernel⟩
abbrev mJ10_init_2 : zM := (RJ10, yJ10_init_2, cJ10_init_2, 5, none, [], none)
theorem hd_J10_init_2 : mJ10_init_2.2.1.cls ≠ "java/lang/invoke/MethodHandle" ∧ mJ10_init_2.2.1.cls ≠ "java/lang/invoke/VarHandle" ∧ (parseMethodDescriptor mJ10_init_2.2.1.desc).map (fun d => d.parameters.length) = some 4 := ⟨by decide +kernel, by decide +kernel, by decide +kernel⟩
abbrev mJ11_init : zM := (RJ11, yJ11_init, cJ11_init, 5, none, [], none)
theorem hd_J11_init : mJ11_init.2.1.cls ≠ "java/lang/invoke/MethodHandle" ∧ mJ11_init.2.1.cls ≠ "java/lang/invoke/VarHandle" ∧ (parseMethodDescriptor mJ11_init.2.1.desc).map (fun d => d.parameters.length) = some 4 := ⟨by decide +kernel, by decide +kernel, by decide +kernel⟩
abbrev mJ18_bitCount : zM := (RJ18, yJ18_bitCount, cJ18_bitCount, 1, (some .int), [], none)
theorem hd_J18_bitCount : mJ18_bitCount.2.1.cls ≠ "java/lang/invoke/MethodHandle" ∧ mJ18_bitCount.2.1.cls ≠ "java/lang/invoke/VarHandle" ∧ (parseMethodDescriptor mJ18_bitCount.2.1.desc).map (fun d => d.parameters.length) = some 1 := ⟨by decide +kernel, by decide +kernel, by decide +kernel⟩
abbrev mJ2_init : zM := (RJ2, yJ2_init, cJ2_init, 2, none, [], none)
theorem hd_J2_init : mJ2_init.2.1.cls ≠ "java/lang/invoke/MethodHandle" ∧ mJ2_init.2.1.cls ≠ "java/lang/invoke/VarHandle" ∧ (parseMethodDescriptor mJ2_init.2.1.desc).map (fun d => d.parameters.length) = some 1 := ⟨by decide +kernel, by decide +kernel, by decide +kernel⟩
abbrev mJ2_size : zM := (RJ2, yJ2_size, cJ2_size, 1, (some .int), [], none)
theorem hd_J2_size : mJ2_size.2.1.cls ≠ "java/lang/invoke/MethodHandle" ∧ mJ2_size.2.1.cls ≠ "java/lang/invoke/VarHandle" ∧ (parseMethodDescriptor mJ2_size.2.1.desc).map (fun d => d.parameters.length) = some 0 := ⟨by decide +kernel, by decide +kernel, by decide +kernel⟩
abbrev mJ2_get : zM := (RJ2, yJ2_get, cJ2_get, 2, (some (.object "java/lang/Object")), [], none)
theorem hd_J2_get : mJ2_get.2.1.cls ≠ "java/lang/invoke/MethodHandle" ∧ mJ2_get.2.1.cls ≠ "java/lang/invoke/VarHandle" ∧ (parseMethodDescriptor mJ2_get.2.1.desc).map (fun d => d.parameters.length) = some 1 := ⟨by decide +kernel, by decide +kernel, by decide +kernel⟩
abbrev mJ2_elementData : zM := (RJ2, yJ2_elementData, cJ2_elementData, 2, (some (.object "java/lang/Object")), [], none)
theorem hd_J2_elementData : mJ2_elementData.2.1.cls ≠ "java/lang/invoke/MethodHandle" ∧ mJ2_elementData.2.1.cls ≠ "java/lang/invoke/VarHandle" ∧ (parseMethodDescriptor mJ2_elementData.2.1.desc).map (fun d => d.parameters.length) = some 1 := ⟨by decide +kernel, by decide +kernel, by decide +kernel⟩
abbrev mJ2_add : zM := (RJ2, yJ2_add, cJ2_add, 2, (some .boolean), [], none)
theorem hd_J2_add : mJ2_add.2.1.cls ≠ "java/lang/invoke/MethodHandle" ∧ mJ2_add.2.1.cls ≠ "java/lang/invoke/VarHandle" ∧ (parseMethodDescriptor mJ2_add.2.1.desc).map (fun d => d.parameters.length) = some 1 := ⟨by decide +kernel, by decide +kernel, by decide +kernel⟩
abbrev mJ2_add_2 : zM := (RJ2, yJ2_add_2, cJ2_add_2, 4, none, [], none)
theorem hd_J2_add_2 : mJ2_add_2.2.1.cls ≠ "java/lang/invoke/MethodHandle" ∧ mJ2_add_2.2.1.cls ≠ "java/lang/invoke/VarHandle" ∧ (parseMethodDescriptor mJ2_add_2.2.1.desc).map (fun d => d.parameters.length) = some 3 := ⟨by decide +kernel, by decide +kernel, by decide +kernel⟩
abbrev mJ2_isEmpty : zM := (RJ2, yJ2_isEmpty, cJ2_isEmpty, 1, (some .boolean), [], none)
theorem hd_J2_isEmpty : mJ2_isEmpty.2.1.cls ≠ "java/lang/invoke/MethodHandle" ∧ mJ2_isEmpty.2.1.cls ≠ "java/lang/invoke/VarHandle" ∧ (parseMethodDescriptor mJ2_isEmpty.2.1.desc).map (fun d => d.parameters.length) = some 0 := ⟨by decide +kernel, by decide +kernel, by decide +kernel⟩
abbrev mJ3_checkIndex : zM := (RJ3, yJ3_checkIndex, cJ3_checkIndex, 2, (some .int), [], none)
theorem hd_J3_checkIndex : mJ3_checkIndex.2.1.cls ≠ "java/lang/invoke/MethodHandle" ∧ mJ3_checkIndex.2.1.cls ≠ "java/lang/invoke/VarHandle" ∧ (parseMethodDescriptor mJ3_checkIndex.2.1.desc).map (fun d => d.parameters.length) = some 2 := ⟨by decide +kernel, by decide +kernel, by decide +kernel⟩
abbrev mJ4_checkIndex : zM := (RJ4, yJ4_checkIndex, cJ4_checkIndex, 3, (some .int), [], none)
theorem hd_J4_checkIndex : mJ4_checkIndex.2.1.cls ≠ "java/lang/invoke/MethodHandle" ∧ mJ4_checkIndex.2.1.cls ≠ "java/lang/invoke/VarHandle" ∧ (parseMethodDescriptor mJ4_checkIndex.2.1.desc).map (fun d => d.parameters.length) = some 3 := ⟨by decide +kernel, by decide +kernel, by decide +kernel⟩
abbrev mJ5_length : zM := (RJ5, yJ5_length, cJ5_length, 1, (some .int), [], none)
theorem hd_J5_length : mJ5_length.2.1.cls ≠ "java/lang/invoke/MethodHandle" ∧ mJ5_length.2.1.cls ≠ "java/lang/invoke/VarHandle" ∧ (parseMethodDescriptor mJ5_length.2.1.desc).map (fun d => d.parameters.length) = some 0 := ⟨by decide +kernel, by decide +kernel, by decide +kernel⟩
abbrev mJ5_coder : zM := (RJ5, yJ5_coder, cJ5_coder, 1, (some .byte), [], none)
theorem hd_J5_coder : mJ5_coder.2.1.cls ≠ "java/lang/invoke/MethodHandle" ∧ mJ5_coder.2.1.cls ≠ "java/lang/invoke/VarHandle" ∧ (parseMethodDescriptor mJ5_coder.2.1.desc).map (fun d => d.parameters.length) = some 0 := ⟨by decide +kernel, by decide +kernel, by decide +kernel⟩
abbrev mJ5_charAt : zM := (RJ5, yJ5_charAt, cJ5_charAt, 2, (some .char), [], none)
theorem hd_J5_charAt : mJ5_charAt.2.1.cls ≠ "java/lang/invoke/MethodHandle" ∧ mJ5_charAt.2.1.cls ≠ "java/lang/invoke/VarHandle" ∧ (parseMethodDescriptor mJ5_charAt.2.1.desc).map (fun d => d.parameters.length) = some 1 := ⟨by decide +kernel, by decide +kernel, by decide +kernel⟩
abbrev mJ5_isLatin1 : zM := (RJ5, yJ5_isLatin1, cJ5_isLatin1, 1, (some .boolean), [], none)
theorem hd_J5_isLatin1 : mJ5_isLatin1.2.1.cls ≠ "java/lang/invoke/MethodHandle" ∧ mJ5_isLatin1.2.1.cls ≠ "java/lang/invoke/VarHandle" ∧ (parseMethodDescriptor mJ5_isLatin1.2.1.desc).map (fun d => d.parameters.length) = some 0 := ⟨by decide +kernel, by decide +kernel, by decide +kernel⟩
abbrev mJ5_checkIndex : zM := (RJ5, yJ5_checkIndex, cJ5_checkIndex, 2, none, [], none)
theorem hd_J5_checkIndex : mJ5_checkIndex.2.1.cls ≠ "java/lang/invoke/MethodHandle" ∧ mJ5_checkIndex.2.1.cls ≠ "java/lang/invoke/VarHandle" ∧ (parseMethodDescriptor mJ5_checkIndex.2.1.desc).map (fun d => d.parameters.length) = some 2 := ⟨by decide +kernel, by decide +kernel, by decide +kernel⟩
abbrev mJ5_indexOf : zM := (RJ5, yJ5_indexOf, cJ5_indexOf, 2, (some .int), [], none)
theorem hd_J5_indexOf : mJ5_indexOf.2.1.cls ≠ "java/lang/invoke/MethodHandle" ∧ mJ5_indexOf.2.1.cls ≠ "java/lang/invoke/VarHandle" ∧ (parseMethodDescriptor mJ5_indexOf.2.1.desc).map (fun d => d.parameters.length) = some 1 := ⟨by decide +kernel, by decide +kernel, by decide +kernel⟩
abbrev mJ5_indexOf_2 : zM := (RJ5, yJ5_indexOf_2, cJ5_indexOf_2, 3, (some .int), [], none)
theorem hd_J5_indexOf_2 : mJ5_indexOf_2.2.1.cls ≠ "java/lang/invoke/MethodHandle" ∧ mJ5_indexOf_2.2.1.cls ≠ "java/lang/invoke/VarHandle" ∧ (parseMethodDescriptor mJ5_indexOf_2.2.1.desc).map (fun d => d.parameters.length) = some 2 := ⟨by decide +kernel, by decide +kernel, by decide +kernel⟩
abbrev mJ6_charAt : zM := (RJ6, yJ6_charAt, cJ6_charAt, 2, (some .char), [], none)
theorem hd_J6_charAt : mJ6_charAt.2.1.cls ≠ "java/lang/invoke/MethodHandle" ∧ mJ6_charAt.2.1.cls ≠ "java/lang/invoke/VarHandle" ∧ (parseMethodDescriptor mJ6_charAt.2.1.desc).map (fun d => d.parameters.length) = some 2 := ⟨by decide +kernel, by decide +kernel, by decide +kernel⟩
abbrev mJ6_indexOf : zM := (RJ6, yJ6_indexOf, cJ6_indexOf, 4, (some .int), [], none)
theorem hd_J6_indexOf : mJ6_indexOf.2.1.cls ≠ "java/lang/invoke/MethodHandle" ∧ mJ6_indexOf.2.1.cls ≠ "java/lang/invoke/VarHandle" ∧ (parseMethodDescriptor mJ6_indexOf.2.1.desc).map (fun d => d.parameters.length) = some 4 := ⟨by decide +kernel, by decide +kernel, by decide +kernel⟩
abbrev mJ6_canEncode : zM := (RJ6, yJ6_canEncode, cJ6_canEncode, 1, (some .boolean), [], none)
theorem hd_J6_canEncode : mJ6_canEncode.2.1.cls ≠ "java/lang/invoke/MethodHandle" ∧ mJ6_canEncode.2.1.cls ≠ "java/lang/invoke/VarHandle" ∧ (parseMethodDescriptor mJ6_canEncode.2.1.desc).map (fun d => d.parameters.length) = some 1 := ⟨by decide +kernel, by decide +kernel, by decide +kernel⟩
abbrev mJ6_indexOfChar : zM := (RJ6, yJ6_indexOfChar, cJ6_indexOfChar, 6, (some .int), [], none)
theorem hd_J6_indexOfChar : mJ6_indexOfChar.2.1.cls ≠ "java/lang/invoke/MethodHandle" ∧ mJ6_indexOfChar.2.1.cls ≠ "java/lang/invoke/VarHandle" ∧ (parseMethodDescriptor mJ6_indexOfChar.2.1.desc).map (fun d => d.parameters.length) = some 4 := ⟨by decide +kernel, by decide +kernel, by decide +kernel⟩
abbrev mX0_look : zM := (RX0, yX0_look, cX0_look, 5, (some .int), [(0, 10, 13, 13), (0, 10, 17, 15)], none)
theorem hd_X0_look : mX0_look.2.1.cls ≠ "java/lang/invoke/MethodHandle" ∧ mX0_look.2.1.cls ≠ "java/lang/invoke/VarHandle" ∧ (parseMethodDescriptor mX0_look.2.1.desc).map (fun d => d.parameters.length) = some 4 := ⟨by decide +kernel, by decide +kernel, by decide +kernel⟩
abbrev mX1_init : zM := (RX1, yX1_init, cX1_init, 1, none, [], none)
theorem hd_X1_init : mX1_init.2.1.cls ≠ "java/lang/invoke/MethodHandle" ∧ mX1_init.2.1.cls ≠ "java/lang/invoke/VarHandle" ∧ (parseMethodDescriptor mX1_init.2.1.desc).map (fun d => d.parameters.length) = some 0 := ⟨by decide +kernel, by decide +kernel, by decide +kernel⟩
abbrev mX1_feed : zM := (RX1, yX1_feed, cX1_feed, 6, (some .int), [], none)
theorem hd_X1_feed : mX1_feed.2.1.cls ≠ "java/lang/invoke/MethodHandle" ∧ mX1_feed.2.1.cls ≠ "java/lang/invoke/VarHandle" ∧ (parseMethodDescriptor mX1_feed.2.1.desc).map (fun d => d.parameters.length) = some 5 := ⟨by decide +kernel, by decide +kernel, by decide +kernel⟩
abbrev mX1_put : zM := (RX1, yX1_put, cX1_put, 3, none, [], none)
theorem hd_X1_put : mX1_put.2.1.cls ≠ "java/lang/invoke/MethodHandle" ∧ mX1_put.2.1.cls ≠ "java/lang/invoke/VarHandle" ∧ (parseMethodDescriptor mX1_put.2.1.desc).map (fun d => d.parameters.length) = some 1 := ⟨by decide +kernel, by decide +kernel, by decide +kernel⟩
abbrev mX1_text : zM := (RX1, yX1_text, cX1_text, 3, (some .int), [(32, 44, 47, 137)], none)
theorem hd_X1_text : mX1_text.2.1.cls ≠ "java/lang/invoke/MethodHandle" ∧ mX1_text.2.1.cls ≠ "java/lang/invoke/VarHandle" ∧ (parseMethodDescriptor mX1_text.2.1.desc).map (fun d => d.parameters.length) = some 1 := ⟨by decide +kernel, by decide +kernel, by decide +kernel⟩
abbrev mX1_in : zM := (RX1, yX1_in, cX1_in, 6, (some .boolean), [], none)
theorem hd_X1_in : mX1_in.2.1.cls ≠ "java/lang/invoke/MethodHandle" ∧ mX1_in.2.1.cls ≠ "java/lang/invoke/VarHandle" ∧ (parseMethodDescriptor mX1_in.2.1.desc).map (fun d => d.parameters.length) = some 3 := ⟨by decide +kernel, by decide +kernel, by decide +kernel⟩
abbrev mX1_fault : zM := (RX1, yX1_fault, cX1_fault, 2, (some .int), [], none)
theorem hd_X1_fault : mX1_fault.2.1.cls ≠ "java/lang/invoke/MethodHandle" ∧ mX1_fault.2.1.cls ≠ "java/lang/invoke/VarHandle" ∧ (parseMethodDescriptor mX1_fault.2.1.desc).map (fun d => d.parameters.length) = some 1 := ⟨by decide +kernel, by decide +kernel, by decide +kernel⟩
abbrev mX1_named : zM := (RX1, yX1_named, cX1_named, 3, (some .int), [], none)
theorem hd_X1_named : mX1_named.2.1.cls ≠ "java/lang/invoke/MethodHandle" ∧ mX1_named.2.1.cls ≠ "java/lang/invoke/VarHandle" ∧ (parseMethodDescriptor mX1_named.2.1.desc).map (fun d => d.parameters.length) = some 2 := ⟨by decide +kernel, by decide +kernel, by decide +kernel⟩
abbrev mX1_letter : zM := (RX1, yX1_letter, cX1_letter, 3, (some .int), [], none)
theorem hd_X1_letter : mX1_letter.2.1.cls ≠ "java/lang/invoke/MethodHandle" ∧ mX1_letter.2.1.cls ≠ "java/lang/invoke/VarHandle" ∧ (parseMethodDescriptor mX1_letter.2.1.desc).map (fun d => d.parameters.length) = some 2 := ⟨by decide +kernel, by decide +kernel, by decide +kernel⟩
abbrev mX1_isLetter : zM := (RX1, yX1_isLetter, cX1_isLetter, 3, (some .boolean), [], none)
theorem hd_X1_isLetter : mX1_isLetter.2.1.cls ≠ "java/lang/invoke/MethodHandle" ∧ mX1_isLetter.2.1.cls ≠ "java/lang/invoke/VarHandle" ∧ (parseMethodDescriptor mX1_isLetter.2.1.desc).map (fun d => d.parameters.length) = some 2 := ⟨by decide +kernel, by decide +kernel, by decide +kernel⟩
abbrev mX1_isSign : zM := (RX1, yX1_isSign, cX1_isSign, 2, (some .boolean), [], none)
theorem hd_X1_isSign : mX1_isSign.2.1.cls ≠ "java/lang/invoke/MethodHandle" ∧ mX1_isSign.2.1.cls ≠ "java/lang/invoke/VarHandle" ∧ (parseMethodDescriptor mX1_isSign.2.1.desc).map (fun d => d.parameters.length) = some 1 := ⟨by decide +kernel, by decide +kernel, by decide +kernel⟩
abbrev mX1_word : zM := (RX1, yX1_word, cX1_word, 4, (some .int), [], none)
theorem hd_X1_word : mX1_word.2.1.cls ≠ "java/lang/invoke/MethodHandle" ∧ mX1_word.2.1.cls ≠ "java/lang/invoke/VarHandle" ∧ (parseMethodDescriptor mX1_word.2.1.desc).map (fun d => d.parameters.length) = some 3 := ⟨by decide +kernel, by decide +kernel, by decide +kernel⟩
abbrev mX1_isTongue : zM := (RX1, yX1_isTongue, cX1_isTongue, 1, (some .boolean), [], none)
theorem hd_X1_isTongue : mX1_isTongue.2.1.cls ≠ "java/lang/invoke/MethodHandle" ∧ mX1_isTongue.2.1.cls ≠ "java/lang/invoke/VarHandle" ∧ (parseMethodDescriptor mX1_isTongue.2.1.desc).map (fun d => d.parameters.length) = some 1 := ⟨by decide +kernel, by decide +kernel, by decide +kernel⟩
abbrev mX1_ways : zM := (RX1, yX1_ways, cX1_ways, 3, (some .long), [], none)
theorem hd_X1_ways : mX1_ways.2.1.cls ≠ "java/lang/invoke/MethodHandle" ∧ mX1_ways.2.1.cls ≠ "java/lang/invoke/VarHandle" ∧ (parseMethodDescriptor mX1_ways.2.1.desc).map (fun d => d.parameters.length) = some 2 := ⟨by decide +kernel, by decide +kernel, by decide +kernel⟩
abbrev mX1_read : zM := (RX1, yX1_read, cX1_read, 3, none, [], none)
theorem hd_X1_read : mX1_read.2.1.cls ≠ "java/lang/invoke/MethodHandle" ∧ mX1_read.2.1.cls ≠ "java/lang/invoke/VarHandle" ∧ (parseMethodDescriptor mX1_read.2.1.desc).map (fun d => d.parameters.length) = some 2 := ⟨by decide +kernel, by decide +kernel, by decide +kernel⟩
abbrev mX1_kindOf : zM := (RX1, yX1_kindOf, cX1_kindOf, 2, (some (.object "TwoTongues$Kind")), [], none)
theorem hd_X1_kindOf : mX1_kindOf.2.1.cls ≠ "java/lang/invoke/MethodHandle" ∧ mX1_kindOf.2.1.cls ≠ "java/lang/invoke/VarHandle" ∧ (parseMethodDescriptor mX1_kindOf.2.1.desc).map (fun d => d.parameters.length) = some 1 := ⟨by decide +kernel, by decide +kernel, by decide +kernel⟩
abbrev mX1_read_2 : zM := (RX1, yX1_read_2, cX1_read_2, 7, none, [], none)
theorem hd_X1_read_2 : mX1_read_2.2.1.cls ≠ "java/lang/invoke/MethodHandle" ∧ mX1_read_2.2.1.cls ≠ "java/lang/invoke/VarHandle" ∧ (parseMethodDescriptor mX1_read_2.2.1.desc).map (fun d => d.parameters.length) = some 3 := ⟨by decide +kernel, by decide +kernel, by decide +kernel⟩
abbrev mX1_stands : zM := (RX1, yX1_stands, cX1_stands, 7, (some .boolean), [], none)
theorem hd_X1_stands : mX1_stands.2.1.cls ≠ "java/lang/invoke/MethodHandle" ∧ mX1_stands.2.1.cls ≠ "java/lang/invoke/VarHandle" ∧ (parseMethodDescriptor mX1_stands.2.1.desc).map (fun d => d.parameters.length) = some 5 := ⟨by decide +kernel, by decide +kernel, by decide +kernel⟩
abbrev mX1_worth : zM := (RX1, yX1_worth, cX1_worth, 3, (some .int), [], none)
theorem hd_X1_worth : mX1_worth.2.1.cls ≠ "java/lang/invoke/MethodHandle" ∧ mX1_worth.2.1.cls ≠ "java/lang/invoke/VarHandle" ∧ (parseMethodDescriptor mX1_worth.2.1.desc).map (fun d => d.parameters.length) = some 2 := ⟨by decide +kernel, by decide +kernel, by decide +kernel⟩
abbrev mX1_said : zM := (RX1, yX1_said, cX1_said, 9, (some .int), [], none)
theorem hd_X1_said : mX1_said.2.1.cls ≠ "java/lang/invoke/MethodHandle" ∧ mX1_said.2.1.cls ≠ "java/lang/invoke/VarHandle" ∧ (parseMethodDescriptor mX1_said.2.1.desc).map (fun d => d.parameters.length) = some 3 := ⟨by decide +kernel, by decide +kernel, by decide +kernel⟩
abbrev mX1_says : zM := (RX1, yX1_says, cX1_says, 4, (some .int), [], none)
theorem hd_X1_says : mX1_says.2.1.cls ≠ "java/lang/invoke/MethodHandle" ∧ mX1_says.2.1.cls ≠ "java/lang/invoke/VarHandle" ∧ (parseMethodDescriptor mX1_says.2.1.desc).map (fun d => d.parameters.length) = some 3 := ⟨by decide +kernel, by decide +kernel, by decide +kernel⟩
abbrev mX1_isDay : zM := (RX1, yX1_isDay, cX1_isDay, 1, (some .boolean), [], none)
theorem hd_X1_isDay : mX1_isDay.2.1.cls ≠ "java/lang/invoke/MethodHandle" ∧ mX1_isDay.2.1.cls ≠ "java/lang/invoke/VarHandle" ∧ (parseMethodDescriptor mX1_isDay.2.1.desc).map (fun d => d.parameters.length) = some 1 := ⟨by decide +kernel, by decide +kernel, by decide +kernel⟩
abbrev mX1_isSaid : zM := (RX1, yX1_isSaid, cX1_isSaid, 4, (some .boolean), [], none)
theorem hd_X1_isSaid : mX1_isSaid.2.1.cls ≠ "java/lang/invoke/MethodHandle" ∧ mX1_isSaid.2.1.cls ≠ "java/lang/invoke/VarHandle" ∧ (parseMethodDescriptor mX1_isSaid.2.1.desc).map (fun d => d.parameters.length) = some 3 := ⟨by decide +kernel, by decide +kernel, by decide +kernel⟩
abbrev mX1_nights : zM := (RX1, yX1_nights, cX1_nights, 4, (some .int), [], none)
theorem hd_X1_nights : mX1_nights.2.1.cls ≠ "java/lang/invoke/MethodHandle" ∧ mX1_nights.2.1.cls ≠ "java/lang/invoke/VarHandle" ∧ (parseMethodDescriptor mX1_nights.2.1.desc).map (fun d => d.parameters.length) = some 1 := ⟨by decide +kernel, by decide +kernel, by decide +kernel⟩
abbrev mX1_draw : zM := (RX1, yX1_draw, cX1_draw, 2, (some .int), [], none)
theorem hd_X1_draw : mX1_draw.2.1.cls ≠ "java/lang/invoke/MethodHandle" ∧ mX1_draw.2.1.cls ≠ "java/lang/invoke/VarHandle" ∧ (parseMethodDescriptor mX1_draw.2.1.desc).map (fun d => d.parameters.length) = some 1 := ⟨by decide +kernel, by decide +kernel, by decide +kernel⟩
abbrev mX1_put_2 : zM := (RX1, yX1_put_2, cX1_put_2, 4, (some .int), [], none)
theorem hd_X1_put_2 : mX1_put_2.2.1.cls ≠ "java/lang/invoke/MethodHandle" ∧ mX1_put_2.2.1.cls ≠ "java/lang/invoke/VarHandle" ∧ (parseMethodDescriptor mX1_put_2.2.1.desc).map (fun d => d.parameters.length) = some 3 := ⟨by decide +kernel, by decide +kernel, by decide +kernel⟩
abbrev mX1_keepNow : zM := (RX1, yX1_keepNow, cX1_keepNow, 3, none, [], none)
theorem hd_X1_keepNow : mX1_keepNow.2.1.cls ≠ "java/lang/invoke/MethodHandle" ∧ mX1_keepNow.2.1.cls ≠ "java/lang/invoke/VarHandle" ∧ (parseMethodDescriptor mX1_keepNow.2.1.desc).map (fun d => d.parameters.length) = some 0 := ⟨by decide +kernel, by decide +kernel, by decide +kernel⟩
abbrev mX1_lose : zM := (RX1, yX1_lose, cX1_lose, 3, (some .boolean), [], none)
theorem hd_X1_lose : mX1_lose.2.1.cls ≠ "java/lang/invoke/MethodHandle" ∧ mX1_lose.2.1.cls ≠ "java/lang/invoke/VarHandle" ∧ (parseMethodDescriptor mX1_lose.2.1.desc).map (fun d => d.parameters.length) = some 2 := ⟨by decide +kernel, by decide +kernel, by decide +kernel⟩
abbrev mX1_coin : zM := (RX1, yX1_coin, cX1_coin, 4, (some .int), [], none)
theorem hd_X1_coin : mX1_coin.2.1.cls ≠ "java/lang/invoke/MethodHandle" ∧ mX1_coin.2.1.cls ≠ "java/lang/invoke/VarHandle" ∧ (parseMethodDescriptor mX1_coin.2.1.desc).map (fun d => d.parameters.length) = some 3 := ⟨by decide +kernel, by decide +kernel, by decide +kernel⟩
abbrev mX1_isWord : zM := (RX1, yX1_isWord, cX1_isWord, 4, (some .boolean), [], none)
theorem hd_X1_isWord : mX1_isWord.2.1.cls ≠ "java/lang/invoke/MethodHandle" ∧ mX1_isWord.2.1.cls ≠ "java/lang/invoke/VarHandle" ∧ (parseMethodDescriptor mX1_isWord.2.1.desc).map (fun d => d.parameters.length) = some 1 := ⟨by decide +kernel, by decide +kernel, by decide +kernel⟩
abbrev mX1_serving : zM := (RX1, yX1_serving, cX1_serving, 3, (some .int), [], none)
theorem hd_X1_serving : mX1_serving.2.1.cls ≠ "java/lang/invoke/MethodHandle" ∧ mX1_serving.2.1.cls ≠ "java/lang/invoke/VarHandle" ∧ (parseMethodDescriptor mX1_serving.2.1.desc).map (fun d => d.parameters.length) = some 2 := ⟨by decide +kernel, by decide +kernel, by decide +kernel⟩
abbrev mX1_isKind : zM := (RX1, yX1_isKind, cX1_isKind, 1, (some .boolean), [], none)
theorem hd_X1_isKind : mX1_isKind.2.1.cls ≠ "java/lang/invoke/MethodHandle" ∧ mX1_isKind.2.1.cls ≠ "java/lang/invoke/VarHandle" ∧ (parseMethodDescriptor mX1_isKind.2.1.desc).map (fun d => d.parameters.length) = some 1 := ⟨by decide +kernel, by decide +kernel, by decide +kernel⟩
abbrev mX1_isLength : zM := (RX1, yX1_isLength, cX1_isLength, 1, (some .boolean), [], none)
theorem hd_X1_isLength : mX1_isLength.2.1.cls ≠ "java/lang/invoke/MethodHandle" ∧ mX1_isLength.2.1.cls ≠ "java/lang/invoke/VarHandle" ∧ (parseMethodDescriptor mX1_isLength.2.1.desc).map (fun d => d.parameters.length) = some 1 := ⟨by decide +kernel, by decide +kernel, by decide +kernel⟩
abbrev mX1_layFree : zM := (RX1, yX1_layFree, cX1_layFree, 4, none, [], none)
theorem hd_X1_layFree : mX1_layFree.2.1.cls ≠ "java/lang/invoke/MethodHandle" ∧ mX1_layFree.2.1.cls ≠ "java/lang/invoke/VarHandle" ∧ (parseMethodDescriptor mX1_layFree.2.1.desc).map (fun d => d.parameters.length) = some 2 := ⟨by decide +kernel, by decide +kernel, by decide +kernel⟩
abbrev mX1_lay : zM := (RX1, yX1_lay, cX1_lay, 6, none, [], none)
theorem hd_X1_lay : mX1_lay.2.1.cls ≠ "java/lang/invoke/MethodHandle" ∧ mX1_lay.2.1.cls ≠ "java/lang/invoke/VarHandle" ∧ (parseMethodDescriptor mX1_lay.2.1.desc).map (fun d => d.parameters.length) = some 2 := ⟨by decide +kernel, by decide +kernel, by decide +kernel⟩
abbrev mX1_at : zM := (RX1, yX1_at, cX1_at, 3, (some .int), [], none)
theorem hd_X1_at : mX1_at.2.1.cls ≠ "java/lang/invoke/MethodHandle" ∧ mX1_at.2.1.cls ≠ "java/lang/invoke/VarHandle" ∧ (parseMethodDescriptor mX1_at.2.1.desc).map (fun d => d.parameters.length) = some 3 := ⟨by decide +kernel, by decide +kernel, by decide +kernel⟩
abbrev mX1_least : zM := (RX1, yX1_least, cX1_least, 13, (some .int), [], none)
theorem hd_X1_least : mX1_least.2.1.cls ≠ "java/lang/invoke/MethodHandle" ∧ mX1_least.2.1.cls ≠ "java/lang/invoke/VarHandle" ∧ (parseMethodDescriptor mX1_least.2.1.desc).map (fun d => d.parameters.length) = some 4 := ⟨by decide +kernel, by decide +kernel, by decide +kernel⟩
abbrev mX1_walks : zM := (RX1, yX1_walks, cX1_walks, 2, (some .int), [], none)
theorem hd_X1_walks : mX1_walks.2.1.cls ≠ "java/lang/invoke/MethodHandle" ∧ mX1_walks.2.1.cls ≠ "java/lang/invoke/VarHandle" ∧ (parseMethodDescriptor mX1_walks.2.1.desc).map (fun d => d.parameters.length) = some 1 := ⟨by decide +kernel, by decide +kernel, by decide +kernel⟩
abbrev mX1_least_2 : zM := (RX1, yX1_least_2, cX1_least_2, 9, (some .int), [], none)
theorem hd_X1_least_2 : mX1_least_2.2.1.cls ≠ "java/lang/invoke/MethodHandle" ∧ mX1_least_2.2.1.cls ≠ "java/lang/invoke/VarHandle" ∧ (parseMethodDescriptor mX1_least_2.2.1.desc).map (fun d => d.parameters.length) = some 3 := ⟨by decide +kernel, by decide +kernel, by decide +kernel⟩
abbrev mX1_walk : zM := (RX1, yX1_walk, cX1_walk, 12, none, [], none)
theorem hd_X1_walk : mX1_walk.2.1.cls ≠ "java/lang/invoke/MethodHandle" ∧ mX1_walk.2.1.cls ≠ "java/lang/invoke/VarHandle" ∧ (parseMethodDescriptor mX1_walk.2.1.desc).map (fun d => d.parameters.length) = some 4 := ⟨by decide +kernel, by decide +kernel, by decide +kernel⟩
abbrev mX1_orMany : zM := (RX1, yX1_orMany, cX1_orMany, 1, (some .int), [], none)
theorem hd_X1_orMany : mX1_orMany.2.1.cls ≠ "java/lang/invoke/MethodHandle" ∧ mX1_orMany.2.1.cls ≠ "java/lang/invoke/VarHandle" ∧ (parseMethodDescriptor mX1_orMany.2.1.desc).map (fun d => d.parameters.length) = some 1 := ⟨by decide +kernel, by decide +kernel, by decide +kernel⟩
abbrev mX1_serves : zM := (RX1, yX1_serves, cX1_serves, 4, (some .long), [], none)
theorem hd_X1_serves : mX1_serves.2.1.cls ≠ "java/lang/invoke/MethodHandle" ∧ mX1_serves.2.1.cls ≠ "java/lang/invoke/VarHandle" ∧ (parseMethodDescriptor mX1_serves.2.1.desc).map (fun d => d.parameters.length) = some 3 := ⟨by decide +kernel, by decide +kernel, by decide +kernel⟩
abbrev mX1_nth : zM := (RX1, yX1_nth, cX1_nth, 2, (some .long), [], none)
theorem hd_X1_nth : mX1_nth.2.1.cls ≠ "java/lang/invoke/MethodHandle" ∧ mX1_nth.2.1.cls ≠ "java/lang/invoke/VarHandle" ∧ (parseMethodDescriptor mX1_nth.2.1.desc).map (fun d => d.parameters.length) = some 1 := ⟨by decide +kernel, by decide +kernel, by decide +kernel⟩
abbrev mX1_lightest : zM := (RX1, yX1_lightest, cX1_lightest, 4, (some .int), [], none)
theorem hd_X1_lightest : mX1_lightest.2.1.cls ≠ "java/lang/invoke/MethodHandle" ∧ mX1_lightest.2.1.cls ≠ "java/lang/invoke/VarHandle" ∧ (parseMethodDescriptor mX1_lightest.2.1.desc).map (fun d => d.parameters.length) = some 2 := ⟨by decide +kernel, by decide +kernel, by decide +kernel⟩
abbrev mX1_light : zM := (RX1, yX1_light, cX1_light, 10, (some .long), [], none)
theorem hd_X1_light : mX1_light.2.1.cls ≠ "java/lang/invoke/MethodHandle" ∧ mX1_light.2.1.cls ≠ "java/lang/invoke/VarHandle" ∧ (parseMethodDescriptor mX1_light.2.1.desc).map (fun d => d.parameters.length) = some 2 := ⟨by decide +kernel, by decide +kernel, by decide +kernel⟩
abbrev mX1_charred : zM := (RX1, yX1_charred, cX1_charred, 2, (some .int), [], none)
theorem hd_X1_charred : mX1_charred.2.1.cls ≠ "java/lang/invoke/MethodHandle" ∧ mX1_charred.2.1.cls ≠ "java/lang/invoke/VarHandle" ∧ (parseMethodDescriptor mX1_charred.2.1.desc).map (fun d => d.parameters.length) = some 1 := ⟨by decide +kernel, by decide +kernel, by decide +kernel⟩
abbrev mX1_filled : zM := (RX1, yX1_filled, cX1_filled, 3, (some .long), [], none)
theorem hd_X1_filled : mX1_filled.2.1.cls ≠ "java/lang/invoke/MethodHandle" ∧ mX1_filled.2.1.cls ≠ "java/lang/invoke/VarHandle" ∧ (parseMethodDescriptor mX1_filled.2.1.desc).map (fun d => d.parameters.length) = some 2 := ⟨by decide +kernel, by decide +kernel, by decide +kernel⟩
abbrev mX1_told : zM := (RX1, yX1_told, cX1_told, 3, (some .int), [], none)
theorem hd_X1_told : mX1_told.2.1.cls ≠ "java/lang/invoke/MethodHandle" ∧ mX1_told.2.1.cls ≠ "java/lang/invoke/VarHandle" ∧ (parseMethodDescriptor mX1_told.2.1.desc).map (fun d => d.parameters.length) = some 2 := ⟨by decide +kernel, by decide +kernel, by decide +kernel⟩
abbrev mX1_toldBy : zM := (RX1, yX1_toldBy, cX1_toldBy, 5, (some .int), [], none)
theorem hd_X1_toldBy : mX1_toldBy.2.1.cls ≠ "java/lang/invoke/MethodHandle" ∧ mX1_toldBy.2.1.cls ≠ "java/lang/invoke/VarHandle" ∧ (parseMethodDescriptor mX1_toldBy.2.1.desc).map (fun d => d.parameters.length) = some 2 := ⟨by decide +kernel, by decide +kernel, by decide +kernel⟩
abbrev mX1_serves_2 : zM := (RX1, yX1_serves_2, cX1_serves_2, 4, (some .boolean), [], none)
theorem hd_X1_serves_2 : mX1_serves_2.2.1.cls ≠ "java/lang/invoke/MethodHandle" ∧ mX1_serves_2.2.1.cls ≠ "java/lang/invoke/VarHandle" ∧ (parseMethodDescriptor mX1_serves_2.2.1.desc).map (fun d => d.parameters.length) = some 2 := ⟨by decide +kernel, by decide +kernel, by decide +kernel⟩
abbrev mX1_sure : zM := (RX1, yX1_sure, cX1_sure, 4, (some .int), [], none)
theorem hd_X1_sure : mX1_sure.2.1.cls ≠ "java/lang/invoke/MethodHandle" ∧ mX1_sure.2.1.cls ≠ "java/lang/invoke/VarHandle" ∧ (parseMethodDescriptor mX1_sure.2.1.desc).map (fun d => d.parameters.length) = some 1 := ⟨by decide +kernel, by decide +kernel, by decide +kernel⟩
abbrev mX1_broken : zM := (RX1, yX1_broken, cX1_broken, 2, (some .int), [], none)
theorem hd_X1_broken : mX1_broken.2.1.cls ≠ "java/lang/invoke/MethodHandle" ∧ mX1_broken.2.1.cls ≠ "java/lang/invoke/VarHandle" ∧ (parseMethodDescriptor mX1_broken.2.1.desc).map (fun d => d.parameters.length) = some 0 := ⟨by decide +kernel, by decide +kernel, by decide +kernel⟩
abbrev mX1_keepOwn : zM := (RX1, yX1_keepOwn, cX1_keepOwn, 2, none, [], none)
theorem hd_X1_keepOwn : mX1_keepOwn.2.1.cls ≠ "java/lang/invoke/MethodHandle" ∧ mX1_keepOwn.2.1.cls ≠ "java/lang/invoke/VarHandle" ∧ (parseMethodDescriptor mX1_keepOwn.2.1.desc).map (fun d => d.parameters.length) = some 0 := ⟨by decide +kernel, by decide +kernel, by decide +kernel⟩
abbrev mX1_isAgreed : zM := (RX1, yX1_isAgreed, cX1_isAgreed, 4, (some .boolean), [], none)
theorem hd_X1_isAgreed : mX1_isAgreed.2.1.cls ≠ "java/lang/invoke/MethodHandle" ∧ mX1_isAgreed.2.1.cls ≠ "java/lang/invoke/VarHandle" ∧ (parseMethodDescriptor mX1_isAgreed.2.1.desc).map (fun d => d.parameters.length) = some 1 := ⟨by decide +kernel, by decide +kernel, by decide +kernel⟩
abbrev mX1_rowOf : zM := (RX1, yX1_rowOf, cX1_rowOf, 2, (some (.object "TwoTongues$Row")), [], none)
theorem hd_X1_rowOf : mX1_rowOf.2.1.cls ≠ "java/lang/invoke/MethodHandle" ∧ mX1_rowOf.2.1.cls ≠ "java/lang/invoke/VarHandle" ∧ (parseMethodDescriptor mX1_rowOf.2.1.desc).map (fun d => d.parameters.length) = some 1 := ⟨by decide +kernel, by decide +kernel, by decide +kernel⟩
abbrev mX1_renamed : zM := (RX1, yX1_renamed, cX1_renamed, 1, (some .int), [], none)
theorem hd_X1_renamed : mX1_renamed.2.1.cls ≠ "java/lang/invoke/MethodHandle" ∧ mX1_renamed.2.1.cls ≠ "java/lang/invoke/VarHandle" ∧ (parseMethodDescriptor mX1_renamed.2.1.desc).map (fun d => d.parameters.length) = some 0 := ⟨by decide +kernel, by decide +kernel, by decide +kernel⟩
abbrev mX1_layRenamed : zM := (RX1, yX1_layRenamed, cX1_layRenamed, 1, none, [], none)
theorem hd_X1_layRenamed : mX1_layRenamed.2.1.cls ≠ "java/lang/invoke/MethodHandle" ∧ mX1_layRenamed.2.1.cls ≠ "java/lang/invoke/VarHandle" ∧ (parseMethodDescriptor mX1_layRenamed.2.1.desc).map (fun d => d.parameters.length) = some 0 := ⟨by decide +kernel, by decide +kernel, by decide +kernel⟩
abbrev mX1_rename : zM := (RX1, yX1_rename, cX1_rename, 5, none, [], none)
theorem hd_X1_rename : mX1_rename.2.1.cls ≠ "java/lang/invoke/MethodHandle" ∧ mX1_rename.2.1.cls ≠ "java/lang/invoke/VarHandle" ∧ (parseMethodDescriptor mX1_rename.2.1.desc).map (fun d => d.parameters.length) = some 3 := ⟨by decide +kernel, by decide +kernel, by decide +kernel⟩
abbrev mX1_areAgreed : zM := (RX1, yX1_areAgreed, cX1_areAgreed, 3, (some .boolean), [], none)
theorem hd_X1_areAgreed : mX1_areAgreed.2.1.cls ≠ "java/lang/invoke/MethodHandle" ∧ mX1_areAgreed.2.1.cls ≠ "java/lang/invoke/VarHandle" ∧ (parseMethodDescriptor mX1_areAgreed.2.1.desc).map (fun d => d.parameters.length) = some 1 := ⟨by decide +kernel, by decide +kernel, by decide +kernel⟩
abbrev mX1_renames : zM := (RX1, yX1_renames, cX1_renames, 2, (some .int), [], none)
theorem hd_X1_renames : mX1_renames.2.1.cls ≠ "java/lang/invoke/MethodHandle" ∧ mX1_renames.2.1.cls ≠ "java/lang/invoke/VarHandle" ∧ (parseMethodDescriptor mX1_renames.2.1.desc).map (fun d => d.parameters.length) = some 1 := ⟨by decide +kernel, by decide +kernel, by decide +kernel⟩
abbrev mX1_fine : zM := (RX1, yX1_fine, cX1_fine, 3, (some .int), [], none)
theorem hd_X1_fine : mX1_fine.2.1.cls ≠ "java/lang/invoke/MethodHandle" ∧ mX1_fine.2.1.cls ≠ "java/lang/invoke/VarHandle" ∧ (parseMethodDescriptor mX1_fine.2.1.desc).map (fun d => d.parameters.length) = some 2 := ⟨by decide +kernel, by decide +kernel, by decide +kernel⟩
abbrev mX1_fineOf : zM := (RX1, yX1_fineOf, cX1_fineOf, 5, (some .int), [(112, 137, 138, 460)], none)
theorem hd_X1_fineOf : mX1_fineOf.2.1.cls ≠ "java/lang/invoke/MethodHandle" ∧ mX1_fineOf.2.1.cls ≠ "java/lang/invoke/VarHandle" ∧ (parseMethodDescriptor mX1_fineOf.2.1.desc).map (fun d => d.parameters.length) = some 2 := ⟨by decide +kernel, by decide +kernel, by decide +kernel⟩
abbrev mX1_sure_2 : zM := (RX1, yX1_sure_2, cX1_sure_2, 2, (some .long), [], none)
theorem hd_X1_sure_2 : mX1_sure_2.2.1.cls ≠ "java/lang/invoke/MethodHandle" ∧ mX1_sure_2.2.1.cls ≠ "java/lang/invoke/VarHandle" ∧ (parseMethodDescriptor mX1_sure_2.2.1.desc).map (fun d => d.parameters.length) = some 1 := ⟨by decide +kernel, by decide +kernel, by decide +kernel⟩
abbrev mX1_bought : zM := (RX1, yX1_bought, cX1_bought, 10, (some .int), [], none)
theorem hd_X1_bought : mX1_bought.2.1.cls ≠ "java/lang/invoke/MethodHandle" ∧ mX1_bought.2.1.cls ≠ "java/lang/invoke/VarHandle" ∧ (parseMethodDescriptor mX1_bought.2.1.desc).map (fun d => d.parameters.length) = some 2 := ⟨by decide +kernel, by decide +kernel, by decide +kernel⟩
abbrev mX1_undo : zM := (RX1, yX1_undo, cX1_undo, 1, (some .int), [], none)
theorem hd_X1_undo : mX1_undo.2.1.cls ≠ "java/lang/invoke/MethodHandle" ∧ mX1_undo.2.1.cls ≠ "java/lang/invoke/VarHandle" ∧ (parseMethodDescriptor mX1_undo.2.1.desc).map (fun d => d.parameters.length) = some 0 := ⟨by decide +kernel, by decide +kernel, by decide +kernel⟩
abbrev mX1_keep : zM := (RX1, yX1_keep, cX1_keep, 1, (some .int), [], none)
theorem hd_X1_keep : mX1_keep.2.1.cls ≠ "java/lang/invoke/MethodHandle" ∧ mX1_keep.2.1.cls ≠ "java/lang/invoke/VarHandle" ∧ (parseMethodDescriptor mX1_keep.2.1.desc).map (fun d => d.parameters.length) = some 0 := ⟨by decide +kernel, by decide +kernel, by decide +kernel⟩
abbrev mX1_back : zM := (RX1, yX1_back, cX1_back, 1, (some .int), [], none)
theorem hd_X1_back : mX1_back.2.1.cls ≠ "java/lang/invoke/MethodHandle" ∧ mX1_back.2.1.cls ≠ "java/lang/invoke/VarHandle" ∧ (parseMethodDescriptor mX1_back.2.1.desc).map (fun d => d.parameters.length) = some 0 := ⟨by decide +kernel, by decide +kernel, by decide +kernel⟩
abbrev mX1_count : zM := (RX1, yX1_count, cX1_count, 4, (some .int), [], none)
theorem hd_X1_count : mX1_count.2.1.cls ≠ "java/lang/invoke/MethodHandle" ∧ mX1_count.2.1.cls ≠ "java/lang/invoke/VarHandle" ∧ (parseMethodDescriptor mX1_count.2.1.desc).map (fun d => d.parameters.length) = some 1 := ⟨by decide +kernel, by decide +kernel, by decide +kernel⟩
abbrev mX1_look : zM := (RX1, yX1_look, cX1_look, 3, (some .int), [], none)
theorem hd_X1_look : mX1_look.2.1.cls ≠ "java/lang/invoke/MethodHandle" ∧ mX1_look.2.1.cls ≠ "java/lang/invoke/VarHandle" ∧ (parseMethodDescriptor mX1_look.2.1.desc).map (fun d => d.parameters.length) = some 2 := ⟨by decide +kernel, by decide +kernel, by decide +kernel⟩
abbrev mX10_init : zM := (RX10, yX10_init, cX10_init, 2, none, [], none)
theorem hd_X10_init : mX10_init.2.1.cls ≠ "java/lang/invoke/MethodHandle" ∧ mX10_init.2.1.cls ≠ "java/lang/invoke/VarHandle" ∧ (parseMethodDescriptor mX10_init.2.1.desc).map (fun d => d.parameters.length) = some 1 := ⟨by decide +kernel, by decide +kernel, by decide +kernel⟩
abbrev mX10_begin : zM := (RX10, yX10_begin, cX10_begin, 2, none, [], none)
theorem hd_X10_begin : mX10_begin.2.1.cls ≠ "java/lang/invoke/MethodHandle" ∧ mX10_begin.2.1.cls ≠ "java/lang/invoke/VarHandle" ∧ (parseMethodDescriptor mX10_begin.2.1.desc).map (fun d => d.parameters.length) = some 0 := ⟨by decide +kernel, by decide +kernel, by decide +kernel⟩
abbrev mX10_become : zM := (RX10, yX10_become, cX10_become, 3, none, [], none)
theorem hd_X10_become : mX10_become.2.1.cls ≠ "java/lang/invoke/MethodHandle" ∧ mX10_become.2.1.cls ≠ "java/lang/invoke/VarHandle" ∧ (parseMethodDescriptor mX10_become.2.1.desc).map (fun d => d.parameters.length) = some 1 := ⟨by decide +kernel, by decide +kernel, by decide +kernel⟩
abbrev mX11_init : zM := (RX11, yX11_init, cX11_init, 1, none, [], none)
theorem hd_X11_init : mX11_init.2.1.cls ≠ "java/lang/invoke/MethodHandle" ∧ mX11_init.2.1.cls ≠ "java/lang/invoke/VarHandle" ∧ (parseMethodDescriptor mX11_init.2.1.desc).map (fun d => d.parameters.length) = some 0 := ⟨by decide +kernel, by decide +kernel, by decide +kernel⟩
abbrev mX11_become : zM := (RX11, yX11_become, cX11_become, 3, none, [], none)
theorem hd_X11_become : mX11_become.2.1.cls ≠ "java/lang/invoke/MethodHandle" ∧ mX11_become.2.1.cls ≠ "java/lang/invoke/VarHandle" ∧ (parseMethodDescriptor mX11_become.2.1.desc).map (fun d => d.parameters.length) = some 1 := ⟨by decide +kernel, by decide +kernel, by decide +kernel⟩
abbrev mX11_code : zM := (RX11, yX11_code, cX11_code, 4, (some .long), [], none)
theorem hd_X11_code : mX11_code.2.1.cls ≠ "java/lang/invoke/MethodHandle" ∧ mX11_code.2.1.cls ≠ "java/lang/invoke/VarHandle" ∧ (parseMethodDescriptor mX11_code.2.1.desc).map (fun d => d.parameters.length) = some 0 := ⟨by decide +kernel, by decide +kernel, by decide +kernel⟩
abbrev mX11_lost : zM := (RX11, yX11_lost, cX11_lost, 3, (some .int), [], none)
theorem hd_X11_lost : mX11_lost.2.1.cls ≠ "java/lang/invoke/MethodHandle" ∧ mX11_lost.2.1.cls ≠ "java/lang/invoke/VarHandle" ∧ (parseMethodDescriptor mX11_lost.2.1.desc).map (fun d => d.parameters.length) = some 0 := ⟨by decide +kernel, by decide +kernel, by decide +kernel⟩
abbrev mX12_init : zM := (RX12, yX12_init, cX12_init, 2, none, [], none)
theorem hd_X12_init : mX12_init.2.1.cls ≠ "java/lang/invoke/MethodHandle" ∧ mX12_init.2.1.cls ≠ "java/lang/invoke/VarHandle" ∧ (parseMethodDescriptor mX12_init.2.1.desc).map (fun d => d.parameters.length) = some 1 := ⟨by decide +kernel, by decide +kernel, by decide +kernel⟩
abbrev mX12_lay : zM := (RX12, yX12_lay, cX12_lay, 3, none, [], none)
theorem hd_X12_lay : mX12_lay.2.1.cls ≠ "java/lang/invoke/MethodHandle" ∧ mX12_lay.2.1.cls ≠ "java/lang/invoke/VarHandle" ∧ (parseMethodDescriptor mX12_lay.2.1.desc).map (fun d => d.parameters.length) = some 2 := ⟨by decide +kernel, by decide +kernel, by decide +kernel⟩
abbrev mX12_only : zM := (RX12, yX12_only, cX12_only, 4, (some .int), [], none)
theorem hd_X12_only : mX12_only.2.1.cls ≠ "java/lang/invoke/MethodHandle" ∧ mX12_only.2.1.cls ≠ "java/lang/invoke/VarHandle" ∧ (parseMethodDescriptor mX12_only.2.1.desc).map (fun d => d.parameters.length) = some 1 := ⟨by decide +kernel, by decide +kernel, by decide +kernel⟩
abbrev mX12_letter : zM := (RX12, yX12_letter, cX12_letter, 3, (some .int), [], none)
theorem hd_X12_letter : mX12_letter.2.1.cls ≠ "java/lang/invoke/MethodHandle" ∧ mX12_letter.2.1.cls ≠ "java/lang/invoke/VarHandle" ∧ (parseMethodDescriptor mX12_letter.2.1.desc).map (fun d => d.parameters.length) = some 2 := ⟨by decide +kernel, by decide +kernel, by decide +kernel⟩
abbrev mX12_goes : zM := (RX12, yX12_goes, cX12_goes, 5, (some .int), [], none)
theorem hd_X12_goes : mX12_goes.2.1.cls ≠ "java/lang/invoke/MethodHandle" ∧ mX12_goes.2.1.cls ≠ "java/lang/invoke/VarHandle" ∧ (parseMethodDescriptor mX12_goes.2.1.desc).map (fun d => d.parameters.length) = some 3 := ⟨by decide +kernel, by decide +kernel, by decide +kernel⟩
abbrev mX12_placeOf : zM := (RX12, yX12_placeOf, cX12_placeOf, 3, (some .int), [], none)
theorem hd_X12_placeOf : mX12_placeOf.2.1.cls ≠ "java/lang/invoke/MethodHandle" ∧ mX12_placeOf.2.1.cls ≠ "java/lang/invoke/VarHandle" ∧ (parseMethodDescriptor mX12_placeOf.2.1.desc).map (fun d => d.parameters.length) = some 2 := ⟨by decide +kernel, by decide +kernel, by decide +kernel⟩
abbrev mX12_goes_2 : zM := (RX12, yX12_goes_2, cX12_goes_2, 9, (some .long), [], none)
theorem hd_X12_goes_2 : mX12_goes_2.2.1.cls ≠ "java/lang/invoke/MethodHandle" ∧ mX12_goes_2.2.1.cls ≠ "java/lang/invoke/VarHandle" ∧ (parseMethodDescriptor mX12_goes_2.2.1.desc).map (fun d => d.parameters.length) = some 2 := ⟨by decide +kernel, by decide +kernel, by decide +kernel⟩
abbrev mX13_init : zM := (RX13, yX13_init, cX13_init, 1, none, [], none)
theorem hd_X13_init : mX13_init.2.1.cls ≠ "java/lang/invoke/MethodHandle" ∧ mX13_init.2.1.cls ≠ "java/lang/invoke/VarHandle" ∧ (parseMethodDescriptor mX13_init.2.1.desc).map (fun d => d.parameters.length) = some 0 := ⟨by decide +kernel, by decide +kernel, by decide +kernel⟩
abbrev mX13_plain : zM := (RX13, yX13_plain, cX13_plain, 2, none, [], none)
theorem hd_X13_plain : mX13_plain.2.1.cls ≠ "java/lang/invoke/MethodHandle" ∧ mX13_plain.2.1.cls ≠ "java/lang/invoke/VarHandle" ∧ (parseMethodDescriptor mX13_plain.2.1.desc).map (fun d => d.parameters.length) = some 0 := ⟨by decide +kernel, by decide +kernel, by decide +kernel⟩
abbrev mX13_keepText : zM := (RX13, yX13_keepText, cX13_keepText, 1, none, [], none)
theorem hd_X13_keepText : mX13_keepText.2.1.cls ≠ "java/lang/invoke/MethodHandle" ∧ mX13_keepText.2.1.cls ≠ "java/lang/invoke/VarHandle" ∧ (parseMethodDescriptor mX13_keepText.2.1.desc).map (fun d => d.parameters.length) = some 0 := ⟨by decide +kernel, by decide +kernel, by decide +kernel⟩
abbrev mX13_copies : zM := (RX13, yX13_copies, cX13_copies, 3, none, [], none)
theorem hd_X13_copies : mX13_copies.2.1.cls ≠ "java/lang/invoke/MethodHandle" ∧ mX13_copies.2.1.cls ≠ "java/lang/invoke/VarHandle" ∧ (parseMethodDescriptor mX13_copies.2.1.desc).map (fun d => d.parameters.length) = some 2 := ⟨by decide +kernel, by decide +kernel, by decide +kernel⟩
abbrev mX13_begin : zM := (RX13, yX13_begin, cX13_begin, 2, none, [], none)
theorem hd_X13_begin : mX13_begin.2.1.cls ≠ "java/lang/invoke/MethodHandle" ∧ mX13_begin.2.1.cls ≠ "java/lang/invoke/VarHandle" ∧ (parseMethodDescriptor mX13_begin.2.1.desc).map (fun d => d.parameters.length) = some 0 := ⟨by decide +kernel, by decide +kernel, by decide +kernel⟩
abbrev mX13_thrown : zM := (RX13, yX13_thrown, cX13_thrown, 1, (some .int), [], none)
theorem hd_X13_thrown : mX13_thrown.2.1.cls ≠ "java/lang/invoke/MethodHandle" ∧ mX13_thrown.2.1.cls ≠ "java/lang/invoke/VarHandle" ∧ (parseMethodDescriptor mX13_thrown.2.1.desc).map (fun d => d.parameters.length) = some 0 := ⟨by decide +kernel, by decide +kernel, by decide +kernel⟩
abbrev mX13_feed : zM := (RX13, yX13_feed, cX13_feed, 8, (some .int), [], none)
theorem hd_X13_feed : mX13_feed.2.1.cls ≠ "java/lang/invoke/MethodHandle" ∧ mX13_feed.2.1.cls ≠ "java/lang/invoke/VarHandle" ∧ (parseMethodDescriptor mX13_feed.2.1.desc).map (fun d => d.parameters.length) = some 5 := ⟨by decide +kernel, by decide +kernel, by decide +kernel⟩
abbrev mX13_text : zM := (RX13, yX13_text, cX13_text, 3, (some .int), [], none)
theorem hd_X13_text : mX13_text.2.1.cls ≠ "java/lang/invoke/MethodHandle" ∧ mX13_text.2.1.cls ≠ "java/lang/invoke/VarHandle" ∧ (parseMethodDescriptor mX13_text.2.1.desc).map (fun d => d.parameters.length) = some 1 := ⟨by decide +kernel, by decide +kernel, by decide +kernel⟩
abbrev mX13_token : zM := (RX13, yX13_token, cX13_token, 1, none, [], none)
theorem hd_X13_token : mX13_token.2.1.cls ≠ "java/lang/invoke/MethodHandle" ∧ mX13_token.2.1.cls ≠ "java/lang/invoke/VarHandle" ∧ (parseMethodDescriptor mX13_token.2.1.desc).map (fun d => d.parameters.length) = some 0 := ⟨by decide +kernel, by decide +kernel, by decide +kernel⟩
abbrev mX13_isSmall : zM := (RX13, yX13_isSmall, cX13_isSmall, 2, (some .boolean), [], none)
theorem hd_X13_isSmall : mX13_isSmall.2.1.cls ≠ "java/lang/invoke/MethodHandle" ∧ mX13_isSmall.2.1.cls ≠ "java/lang/invoke/VarHandle" ∧ (parseMethodDescriptor mX13_isSmall.2.1.desc).map (fun d => d.parameters.length) = some 1 := ⟨by decide +kernel, by decide +kernel, by decide +kernel⟩
abbrev mX13_wordAt : zM := (RX13, yX13_wordAt, cX13_wordAt, 8, (some .int), [], none)
theorem hd_X13_wordAt : mX13_wordAt.2.1.cls ≠ "java/lang/invoke/MethodHandle" ∧ mX13_wordAt.2.1.cls ≠ "java/lang/invoke/VarHandle" ∧ (parseMethodDescriptor mX13_wordAt.2.1.desc).map (fun d => d.parameters.length) = some 2 := ⟨by decide +kernel, by decide +kernel, by decide +kernel⟩
abbrev mX13_packed : zM := (RX13, yX13_packed, cX13_packed, 5, (some .int), [], none)
theorem hd_X13_packed : mX13_packed.2.1.cls ≠ "java/lang/invoke/MethodHandle" ∧ mX13_packed.2.1.cls ≠ "java/lang/invoke/VarHandle" ∧ (parseMethodDescriptor mX13_packed.2.1.desc).map (fun d => d.parameters.length) = some 2 := ⟨by decide +kernel, by decide +kernel, by decide +kernel⟩
abbrev mX13_isDigit : zM := (RX13, yX13_isDigit, cX13_isDigit, 2, (some .boolean), [], none)
theorem hd_X13_isDigit : mX13_isDigit.2.1.cls ≠ "java/lang/invoke/MethodHandle" ∧ mX13_isDigit.2.1.cls ≠ "java/lang/invoke/VarHandle" ∧ (parseMethodDescriptor mX13_isDigit.2.1.desc).map (fun d => d.parameters.length) = some 1 := ⟨by decide +kernel, by decide +kernel, by decide +kernel⟩
abbrev mX13_signToken : zM := (RX13, yX13_signToken, cX13_signToken, 4, none, [], none)
theorem hd_X13_signToken : mX13_signToken.2.1.cls ≠ "java/lang/invoke/MethodHandle" ∧ mX13_signToken.2.1.cls ≠ "java/lang/invoke/VarHandle" ∧ (parseMethodDescriptor mX13_signToken.2.1.desc).map (fun d => d.parameters.length) = some 0 := ⟨by decide +kernel, by decide +kernel, by decide +kernel⟩
abbrev mX13_lineRead : zM := (RX13, yX13_lineRead, cX13_lineRead, 2, (some .boolean), [], none)
theorem hd_X13_lineRead : mX13_lineRead.2.1.cls ≠ "java/lang/invoke/MethodHandle" ∧ mX13_lineRead.2.1.cls ≠ "java/lang/invoke/VarHandle" ∧ (parseMethodDescriptor mX13_lineRead.2.1.desc).map (fun d => d.parameters.length) = some 0 := ⟨by decide +kernel, by decide +kernel, by decide +kernel⟩
abbrev mX13_wrong : zM := (RX13, yX13_wrong, cX13_wrong, 2, (some .boolean), [], none)
theorem hd_X13_wrong : mX13_wrong.2.1.cls ≠ "java/lang/invoke/MethodHandle" ∧ mX13_wrong.2.1.cls ≠ "java/lang/invoke/VarHandle" ∧ (parseMethodDescriptor mX13_wrong.2.1.desc).map (fun d => d.parameters.length) = some 1 := ⟨by decide +kernel, by decide +kernel, by decide +kernel⟩
abbrev mX13_wordLine : zM := (RX13, yX13_wordLine, cX13_wordLine, 3, (some .boolean), [], none)
theorem hd_X13_wordLine : mX13_wordLine.2.1.cls ≠ "java/lang/invoke/MethodHandle" ∧ mX13_wordLine.2.1.cls ≠ "java/lang/invoke/VarHandle" ∧ (parseMethodDescriptor mX13_wordLine.2.1.desc).map (fun d => d.parameters.length) = some 1 := ⟨by decide +kernel, by decide +kernel, by decide +kernel⟩
abbrev mX13_find : zM := (RX13, yX13_find, cX13_find, 5, (some .int), [], none)
theorem hd_X13_find : mX13_find.2.1.cls ≠ "java/lang/invoke/MethodHandle" ∧ mX13_find.2.1.cls ≠ "java/lang/invoke/VarHandle" ∧ (parseMethodDescriptor mX13_find.2.1.desc).map (fun d => d.parameters.length) = some 4 := ⟨by decide +kernel, by decide +kernel, by decide +kernel⟩
abbrev mX13_number : zM := (RX13, yX13_number, cX13_number, 3, (some .boolean), [], none)
theorem hd_X13_number : mX13_number.2.1.cls ≠ "java/lang/invoke/MethodHandle" ∧ mX13_number.2.1.cls ≠ "java/lang/invoke/VarHandle" ∧ (parseMethodDescriptor mX13_number.2.1.desc).map (fun d => d.parameters.length) = some 2 := ⟨by decide +kernel, by decide +kernel, by decide +kernel⟩
abbrev mX13_isIn : zM := (RX13, yX13_isIn, cX13_isIn, 3, (some .boolean), [], none)
theorem hd_X13_isIn : mX13_isIn.2.1.cls ≠ "java/lang/invoke/MethodHandle" ∧ mX13_isIn.2.1.cls ≠ "java/lang/invoke/VarHandle" ∧ (parseMethodDescriptor mX13_isIn.2.1.desc).map (fun d => d.parameters.length) = some 3 := ⟨by decide +kernel, by decide +kernel, by decide +kernel⟩
abbrev mX13_signLine : zM := (RX13, yX13_signLine, cX13_signLine, 2, (some .boolean), [], none)
theorem hd_X13_signLine : mX13_signLine.2.1.cls ≠ "java/lang/invoke/MethodHandle" ∧ mX13_signLine.2.1.cls ≠ "java/lang/invoke/VarHandle" ∧ (parseMethodDescriptor mX13_signLine.2.1.desc).map (fun d => d.parameters.length) = some 0 := ⟨by decide +kernel, by decide +kernel, by decide +kernel⟩
abbrev mX13_rowRead : zM := (RX13, yX13_rowRead, cX13_rowRead, 6, (some .boolean), [], none)
theorem hd_X13_rowRead : mX13_rowRead.2.1.cls ≠ "java/lang/invoke/MethodHandle" ∧ mX13_rowRead.2.1.cls ≠ "java/lang/invoke/VarHandle" ∧ (parseMethodDescriptor mX13_rowRead.2.1.desc).map (fun d => d.parameters.length) = some 2 := ⟨by decide +kernel, by decide +kernel, by decide +kernel⟩
abbrev mX13_longOf : zM := (RX13, yX13_longOf, cX13_longOf, 2, (some .int), [], none)
theorem hd_X13_longOf : mX13_longOf.2.1.cls ≠ "java/lang/invoke/MethodHandle" ∧ mX13_longOf.2.1.cls ≠ "java/lang/invoke/VarHandle" ∧ (parseMethodDescriptor mX13_longOf.2.1.desc).map (fun d => d.parameters.length) = some 1 := ⟨by decide +kernel, by decide +kernel, by decide +kernel⟩
abbrev mX13_letterOf : zM := (RX13, yX13_letterOf, cX13_letterOf, 2, (some .int), [], none)
theorem hd_X13_letterOf : mX13_letterOf.2.1.cls ≠ "java/lang/invoke/MethodHandle" ∧ mX13_letterOf.2.1.cls ≠ "java/lang/invoke/VarHandle" ∧ (parseMethodDescriptor mX13_letterOf.2.1.desc).map (fun d => d.parameters.length) = some 2 := ⟨by decide +kernel, by decide +kernel, by decide +kernel⟩
abbrev mX13_cornerLine : zM := (RX13, yX13_cornerLine, cX13_cornerLine, 2, (some .boolean), [], none)
theorem hd_X13_cornerLine : mX13_cornerLine.2.1.cls ≠ "java/lang/invoke/MethodHandle" ∧ mX13_cornerLine.2.1.cls ≠ "java/lang/invoke/VarHandle" ∧ (parseMethodDescriptor mX13_cornerLine.2.1.desc).map (fun d => d.parameters.length) = some 0 := ⟨by decide +kernel, by decide +kernel, by decide +kernel⟩
abbrev mX13_signThere : zM := (RX13, yX13_signThere, cX13_signThere, 3, (some .boolean), [], none)
theorem hd_X13_signThere : mX13_signThere.2.1.cls ≠ "java/lang/invoke/MethodHandle" ∧ mX13_signThere.2.1.cls ≠ "java/lang/invoke/VarHandle" ∧ (parseMethodDescriptor mX13_signThere.2.1.desc).map (fun d => d.parameters.length) = some 1 := ⟨by decide +kernel, by decide +kernel, by decide +kernel⟩
abbrev mX13_weighLine : zM := (RX13, yX13_weighLine, cX13_weighLine, 3, (some .boolean), [], none)
theorem hd_X13_weighLine : mX13_weighLine.2.1.cls ≠ "java/lang/invoke/MethodHandle" ∧ mX13_weighLine.2.1.cls ≠ "java/lang/invoke/VarHandle" ∧ (parseMethodDescriptor mX13_weighLine.2.1.desc).map (fun d => d.parameters.length) = some 0 := ⟨by decide +kernel, by decide +kernel, by decide +kernel⟩
abbrev mX13_feastLine : zM := (RX13, yX13_feastLine, cX13_feastLine, 3, (some .boolean), [], none)
theorem hd_X13_feastLine : mX13_feastLine.2.1.cls ≠ "java/lang/invoke/MethodHandle" ∧ mX13_feastLine.2.1.cls ≠ "java/lang/invoke/VarHandle" ∧ (parseMethodDescriptor mX13_feastLine.2.1.desc).map (fun d => d.parameters.length) = some 0 := ⟨by decide +kernel, by decide +kernel, by decide +kernel⟩
abbrev mX13_isKey : zM := (RX13, yX13_isKey, cX13_isKey, 2, (some .boolean), [], none)
theorem hd_X13_isKey : mX13_isKey.2.1.cls ≠ "java/lang/invoke/MethodHandle" ∧ mX13_isKey.2.1.cls ≠ "java/lang/invoke/VarHandle" ∧ (parseMethodDescriptor mX13_isKey.2.1.desc).map (fun d => d.parameters.length) = some 1 := ⟨by decide +kernel, by decide +kernel, by decide +kernel⟩
abbrev mX13_sumRead : zM := (RX13, yX13_sumRead, cX13_sumRead, 1, (some .boolean), [], none)
theorem hd_X13_sumRead : mX13_sumRead.2.1.cls ≠ "java/lang/invoke/MethodHandle" ∧ mX13_sumRead.2.1.cls ≠ "java/lang/invoke/VarHandle" ∧ (parseMethodDescriptor mX13_sumRead.2.1.desc).map (fun d => d.parameters.length) = some 0 := ⟨by decide +kernel, by decide +kernel, by decide +kernel⟩
abbrev mX13_isSign : zM := (RX13, yX13_isSign, cX13_isSign, 2, (some .boolean), [], none)
theorem hd_X13_isSign : mX13_isSign.2.1.cls ≠ "java/lang/invoke/MethodHandle" ∧ mX13_isSign.2.1.cls ≠ "java/lang/invoke/VarHandle" ∧ (parseMethodDescriptor mX13_isSign.2.1.desc).map (fun d => d.parameters.length) = some 1 := ⟨by decide +kernel, by decide +kernel, by decide +kernel⟩
abbrev mX13_leafRead : zM := (RX13, yX13_leafRead, cX13_leafRead, 2, (some .boolean), [], none)
theorem hd_X13_leafRead : mX13_leafRead.2.1.cls ≠ "java/lang/invoke/MethodHandle" ∧ mX13_leafRead.2.1.cls ≠ "java/lang/invoke/VarHandle" ∧ (parseMethodDescriptor mX13_leafRead.2.1.desc).map (fun d => d.parameters.length) = some 0 := ⟨by decide +kernel, by decide +kernel, by decide +kernel⟩
abbrev mX13_waitsFor : zM := (RX13, yX13_waitsFor, cX13_waitsFor, 2, none, [], none)
theorem hd_X13_waitsFor : mX13_waitsFor.2.1.cls ≠ "java/lang/invoke/MethodHandle" ∧ mX13_waitsFor.2.1.cls ≠ "java/lang/invoke/VarHandle" ∧ (parseMethodDescriptor mX13_waitsFor.2.1.desc).map (fun d => d.parameters.length) = some 1 := ⟨by decide +kernel, by decide +kernel, by decide +kernel⟩
abbrev mX13_isCounted : zM := (RX13, yX13_isCounted, cX13_isCounted, 1, (some .boolean), [], none)
theorem hd_X13_isCounted : mX13_isCounted.2.1.cls ≠ "java/lang/invoke/MethodHandle" ∧ mX13_isCounted.2.1.cls ≠ "java/lang/invoke/VarHandle" ∧ (parseMethodDescriptor mX13_isCounted.2.1.desc).map (fun d => d.parameters.length) = some 0 := ⟨by decide +kernel, by decide +kernel, by decide +kernel⟩
abbrev mX13_nameMet : zM := (RX13, yX13_nameMet, cX13_nameMet, 1, (some .int), [], none)
theorem hd_X13_nameMet : mX13_nameMet.2.1.cls ≠ "java/lang/invoke/MethodHandle" ∧ mX13_nameMet.2.1.cls ≠ "java/lang/invoke/VarHandle" ∧ (parseMethodDescriptor mX13_nameMet.2.1.desc).map (fun d => d.parameters.length) = some 0 := ⟨by decide +kernel, by decide +kernel, by decide +kernel⟩
abbrev mX13_grown : zM := (RX13, yX13_grown, cX13_grown, 4, none, [], none)
theorem hd_X13_grown : mX13_grown.2.1.cls ≠ "java/lang/invoke/MethodHandle" ∧ mX13_grown.2.1.cls ≠ "java/lang/invoke/VarHandle" ∧ (parseMethodDescriptor mX13_grown.2.1.desc).map (fun d => d.parameters.length) = some 3 := ⟨by decide +kernel, by decide +kernel, by decide +kernel⟩
abbrev mX13_signs : zM := (RX13, yX13_signs, cX13_signs, 2, (some .boolean), [], none)
theorem hd_X13_signs : mX13_signs.2.1.cls ≠ "java/lang/invoke/MethodHandle" ∧ mX13_signs.2.1.cls ≠ "java/lang/invoke/VarHandle" ∧ (parseMethodDescriptor mX13_signs.2.1.desc).map (fun d => d.parameters.length) = some 0 := ⟨by decide +kernel, by decide +kernel, by decide +kernel⟩
abbrev mX13_bind : zM := (RX13, yX13_bind, cX13_bind, 5, none, [], none)
theorem hd_X13_bind : mX13_bind.2.1.cls ≠ "java/lang/invoke/MethodHandle" ∧ mX13_bind.2.1.cls ≠ "java/lang/invoke/VarHandle" ∧ (parseMethodDescriptor mX13_bind.2.1.desc).map (fun d => d.parameters.length) = some 1 := ⟨by decide +kernel, by decide +kernel, by decide +kernel⟩
abbrev mX13_rank : zM := (RX13, yX13_rank, cX13_rank, 1, (some .int), [], none)
theorem hd_X13_rank : mX13_rank.2.1.cls ≠ "java/lang/invoke/MethodHandle" ∧ mX13_rank.2.1.cls ≠ "java/lang/invoke/VarHandle" ∧ (parseMethodDescriptor mX13_rank.2.1.desc).map (fun d => d.parameters.length) = some 1 := ⟨by decide +kernel, by decide +kernel, by decide +kernel⟩
abbrev mX13_dropHeld : zM := (RX13, yX13_dropHeld, cX13_dropHeld, 1, (some .int), [], none)
theorem hd_X13_dropHeld : mX13_dropHeld.2.1.cls ≠ "java/lang/invoke/MethodHandle" ∧ mX13_dropHeld.2.1.cls ≠ "java/lang/invoke/VarHandle" ∧ (parseMethodDescriptor mX13_dropHeld.2.1.desc).map (fun d => d.parameters.length) = some 0 := ⟨by decide +kernel, by decide +kernel, by decide +kernel⟩
abbrev mX13_fault : zM := (RX13, yX13_fault, cX13_fault, 2, (some .int), [], none)
theorem hd_X13_fault : mX13_fault.2.1.cls ≠ "java/lang/invoke/MethodHandle" ∧ mX13_fault.2.1.cls ≠ "java/lang/invoke/VarHandle" ∧ (parseMethodDescriptor mX13_fault.2.1.desc).map (fun d => d.parameters.length) = some 1 := ⟨by decide +kernel, by decide +kernel, by decide +kernel⟩
abbrev mX13_named : zM := (RX13, yX13_named, cX13_named, 3, (some .int), [], none)
theorem hd_X13_named : mX13_named.2.1.cls ≠ "java/lang/invoke/MethodHandle" ∧ mX13_named.2.1.cls ≠ "java/lang/invoke/VarHandle" ∧ (parseMethodDescriptor mX13_named.2.1.desc).map (fun d => d.parameters.length) = some 2 := ⟨by decide +kernel, by decide +kernel, by decide +kernel⟩
abbrev mX13_look : zM := (RX13, yX13_look, cX13_look, 3, (some .int), [], none)
theorem hd_X13_look : mX13_look.2.1.cls ≠ "java/lang/invoke/MethodHandle" ∧ mX13_look.2.1.cls ≠ "java/lang/invoke/VarHandle" ∧ (parseMethodDescriptor mX13_look.2.1.desc).map (fun d => d.parameters.length) = some 2 := ⟨by decide +kernel, by decide +kernel, by decide +kernel⟩
abbrev mX13_isBoard : zM := (RX13, yX13_isBoard, cX13_isBoard, 2, (some .boolean), [], none)
theorem hd_X13_isBoard : mX13_isBoard.2.1.cls ≠ "java/lang/invoke/MethodHandle" ∧ mX13_isBoard.2.1.cls ≠ "java/lang/invoke/VarHandle" ∧ (parseMethodDescriptor mX13_isBoard.2.1.desc).map (fun d => d.parameters.length) = some 1 := ⟨by decide +kernel, by decide +kernel, by decide +kernel⟩
abbrev mX13_fails : zM := (RX13, yX13_fails, cX13_fails, 2, (some .int), [], none)
theorem hd_X13_fails : mX13_fails.2.1.cls ≠ "java/lang/invoke/MethodHandle" ∧ mX13_fails.2.1.cls ≠ "java/lang/invoke/VarHandle" ∧ (parseMethodDescriptor mX13_fails.2.1.desc).map (fun d => d.parameters.length) = some 1 := ⟨by decide +kernel, by decide +kernel, by decide +kernel⟩
abbrev mX13_lostOf : zM := (RX13, yX13_lostOf, cX13_lostOf, 4, (some .int), [], none)
theorem hd_X13_lostOf : mX13_lostOf.2.1.cls ≠ "java/lang/invoke/MethodHandle" ∧ mX13_lostOf.2.1.cls ≠ "java/lang/invoke/VarHandle" ∧ (parseMethodDescriptor mX13_lostOf.2.1.desc).map (fun d => d.parameters.length) = some 1 := ⟨by decide +kernel, by decide +kernel, by decide +kernel⟩
abbrev mX13_ironOf : zM := (RX13, yX13_ironOf, cX13_ironOf, 4, (some .int), [], none)
theorem hd_X13_ironOf : mX13_ironOf.2.1.cls ≠ "java/lang/invoke/MethodHandle" ∧ mX13_ironOf.2.1.cls ≠ "java/lang/invoke/VarHandle" ∧ (parseMethodDescriptor mX13_ironOf.2.1.desc).map (fun d => d.parameters.length) = some 1 := ⟨by decide +kernel, by decide +kernel, by decide +kernel⟩
abbrev mX13_letter : zM := (RX13, yX13_letter, cX13_letter, 3, (some .int), [], none)
theorem hd_X13_letter : mX13_letter.2.1.cls ≠ "java/lang/invoke/MethodHandle" ∧ mX13_letter.2.1.cls ≠ "java/lang/invoke/VarHandle" ∧ (parseMethodDescriptor mX13_letter.2.1.desc).map (fun d => d.parameters.length) = some 2 := ⟨by decide +kernel, by decide +kernel, by decide +kernel⟩
abbrev mX13_isLetter : zM := (RX13, yX13_isLetter, cX13_isLetter, 3, (some .boolean), [], none)
theorem hd_X13_isLetter : mX13_isLetter.2.1.cls ≠ "java/lang/invoke/MethodHandle" ∧ mX13_isLetter.2.1.cls ≠ "java/lang/invoke/VarHandle" ∧ (parseMethodDescriptor mX13_isLetter.2.1.desc).map (fun d => d.parameters.length) = some 2 := ⟨by decide +kernel, by decide +kernel, by decide +kernel⟩
abbrev mX13_word : zM := (RX13, yX13_word, cX13_word, 4, (some .int), [], none)
theorem hd_X13_word : mX13_word.2.1.cls ≠ "java/lang/invoke/MethodHandle" ∧ mX13_word.2.1.cls ≠ "java/lang/invoke/VarHandle" ∧ (parseMethodDescriptor mX13_word.2.1.desc).map (fun d => d.parameters.length) = some 3 := ⟨by decide +kernel, by decide +kernel, by decide +kernel⟩
abbrev mX13_isTongue : zM := (RX13, yX13_isTongue, cX13_isTongue, 1, (some .boolean), [], none)
theorem hd_X13_isTongue : mX13_isTongue.2.1.cls ≠ "java/lang/invoke/MethodHandle" ∧ mX13_isTongue.2.1.cls ≠ "java/lang/invoke/VarHandle" ∧ (parseMethodDescriptor mX13_isTongue.2.1.desc).map (fun d => d.parameters.length) = some 1 := ⟨by decide +kernel, by decide +kernel, by decide +kernel⟩
abbrev mX13_ways : zM := (RX13, yX13_ways, cX13_ways, 3, (some .long), [], none)
theorem hd_X13_ways : mX13_ways.2.1.cls ≠ "java/lang/invoke/MethodHandle" ∧ mX13_ways.2.1.cls ≠ "java/lang/invoke/VarHandle" ∧ (parseMethodDescriptor mX13_ways.2.1.desc).map (fun d => d.parameters.length) = some 2 := ⟨by decide +kernel, by decide +kernel, by decide +kernel⟩
abbrev mX13_reads : zM := (RX13, yX13_reads, cX13_reads, 3, none, [], none)
theorem hd_X13_reads : mX13_reads.2.1.cls ≠ "java/lang/invoke/MethodHandle" ∧ mX13_reads.2.1.cls ≠ "java/lang/invoke/VarHandle" ∧ (parseMethodDescriptor mX13_reads.2.1.desc).map (fun d => d.parameters.length) = some 2 := ⟨by decide +kernel, by decide +kernel, by decide +kernel⟩
abbrev mX13_isLeft : zM := (RX13, yX13_isLeft, cX13_isLeft, 2, (some .boolean), [], none)
theorem hd_X13_isLeft : mX13_isLeft.2.1.cls ≠ "java/lang/invoke/MethodHandle" ∧ mX13_isLeft.2.1.cls ≠ "java/lang/invoke/VarHandle" ∧ (parseMethodDescriptor mX13_isLeft.2.1.desc).map (fun d => d.parameters.length) = some 2 := ⟨by decide +kernel, by decide +kernel, by decide +kernel⟩
abbrev mX13_layMet : zM := (RX13, yX13_layMet, cX13_layMet, 6, none, [], none)
theorem hd_X13_layMet : mX13_layMet.2.1.cls ≠ "java/lang/invoke/MethodHandle" ∧ mX13_layMet.2.1.cls ≠ "java/lang/invoke/VarHandle" ∧ (parseMethodDescriptor mX13_layMet.2.1.desc).map (fun d => d.parameters.length) = some 4 := ⟨by decide +kernel, by decide +kernel, by decide +kernel⟩
abbrev mX13_layReadings : zM := (RX13, yX13_layReadings, cX13_layReadings, 5, none, [], none)
theorem hd_X13_layReadings : mX13_layReadings.2.1.cls ≠ "java/lang/invoke/MethodHandle" ∧ mX13_layReadings.2.1.cls ≠ "java/lang/invoke/VarHandle" ∧ (parseMethodDescriptor mX13_layReadings.2.1.desc).map (fun d => d.parameters.length) = some 1 := ⟨by decide +kernel, by decide +kernel, by decide +kernel⟩
abbrev mX13_standsAt : zM := (RX13, yX13_standsAt, cX13_standsAt, 5, (some .boolean), [], none)
theorem hd_X13_standsAt : mX13_standsAt.2.1.cls ≠ "java/lang/invoke/MethodHandle" ∧ mX13_standsAt.2.1.cls ≠ "java/lang/invoke/VarHandle" ∧ (parseMethodDescriptor mX13_standsAt.2.1.desc).map (fun d => d.parameters.length) = some 2 := ⟨by decide +kernel, by decide +kernel, by decide +kernel⟩
abbrev mX13_worth : zM := (RX13, yX13_worth, cX13_worth, 3, (some .int), [], none)
theorem hd_X13_worth : mX13_worth.2.1.cls ≠ "java/lang/invoke/MethodHandle" ∧ mX13_worth.2.1.cls ≠ "java/lang/invoke/VarHandle" ∧ (parseMethodDescriptor mX13_worth.2.1.desc).map (fun d => d.parameters.length) = some 2 := ⟨by decide +kernel, by decide +kernel, by decide +kernel⟩
abbrev mX13_said : zM := (RX13, yX13_said, cX13_said, 7, (some .int), [], none)
theorem hd_X13_said : mX13_said.2.1.cls ≠ "java/lang/invoke/MethodHandle" ∧ mX13_said.2.1.cls ≠ "java/lang/invoke/VarHandle" ∧ (parseMethodDescriptor mX13_said.2.1.desc).map (fun d => d.parameters.length) = some 3 := ⟨by decide +kernel, by decide +kernel, by decide +kernel⟩
abbrev mX13_says : zM := (RX13, yX13_says, cX13_says, 4, (some .int), [], none)
theorem hd_X13_says : mX13_says.2.1.cls ≠ "java/lang/invoke/MethodHandle" ∧ mX13_says.2.1.cls ≠ "java/lang/invoke/VarHandle" ∧ (parseMethodDescriptor mX13_says.2.1.desc).map (fun d => d.parameters.length) = some 3 := ⟨by decide +kernel, by decide +kernel, by decide +kernel⟩
abbrev mX13_isDay : zM := (RX13, yX13_isDay, cX13_isDay, 1, (some .boolean), [], none)
theorem hd_X13_isDay : mX13_isDay.2.1.cls ≠ "java/lang/invoke/MethodHandle" ∧ mX13_isDay.2.1.cls ≠ "java/lang/invoke/VarHandle" ∧ (parseMethodDescriptor mX13_isDay.2.1.desc).map (fun d => d.parameters.length) = some 1 := ⟨by decide +kernel, by decide +kernel, by decide +kernel⟩
abbrev mX13_saysOn : zM := (RX13, yX13_saysOn, cX13_saysOn, 4, (some .boolean), [], none)
theorem hd_X13_saysOn : mX13_saysOn.2.1.cls ≠ "java/lang/invoke/MethodHandle" ∧ mX13_saysOn.2.1.cls ≠ "java/lang/invoke/VarHandle" ∧ (parseMethodDescriptor mX13_saysOn.2.1.desc).map (fun d => d.parameters.length) = some 3 := ⟨by decide +kernel, by decide +kernel, by decide +kernel⟩
abbrev mX13_isCovered : zM := (RX13, yX13_isCovered, cX13_isCovered, 4, (some .boolean), [], none)
theorem hd_X13_isCovered : mX13_isCovered.2.1.cls ≠ "java/lang/invoke/MethodHandle" ∧ mX13_isCovered.2.1.cls ≠ "java/lang/invoke/VarHandle" ∧ (parseMethodDescriptor mX13_isCovered.2.1.desc).map (fun d => d.parameters.length) = some 2 := ⟨by decide +kernel, by decide +kernel, by decide +kernel⟩
abbrev mX13_nights : zM := (RX13, yX13_nights, cX13_nights, 4, (some .int), [], none)
theorem hd_X13_nights : mX13_nights.2.1.cls ≠ "java/lang/invoke/MethodHandle" ∧ mX13_nights.2.1.cls ≠ "java/lang/invoke/VarHandle" ∧ (parseMethodDescriptor mX13_nights.2.1.desc).map (fun d => d.parameters.length) = some 1 := ⟨by decide +kernel, by decide +kernel, by decide +kernel⟩
abbrev mX13_number1 : zM := (RX13, yX13_number1, cX13_number1, 2, (some .int), [], none)
theorem hd_X13_number1 : mX13_number1.2.1.cls ≠ "java/lang/invoke/MethodHandle" ∧ mX13_number1.2.1.cls ≠ "java/lang/invoke/VarHandle" ∧ (parseMethodDescriptor mX13_number1.2.1.desc).map (fun d => d.parameters.length) = some 1 := ⟨by decide +kernel, by decide +kernel, by decide +kernel⟩
abbrev mX13_put : zM := (RX13, yX13_put, cX13_put, 4, (some .int), [], none)
theorem hd_X13_put : mX13_put.2.1.cls ≠ "java/lang/invoke/MethodHandle" ∧ mX13_put.2.1.cls ≠ "java/lang/invoke/VarHandle" ∧ (parseMethodDescriptor mX13_put.2.1.desc).map (fun d => d.parameters.length) = some 3 := ⟨by decide +kernel, by decide +kernel, by decide +kernel⟩
abbrev mX13_remember : zM := (RX13, yX13_remember, cX13_remember, 5, none, [], none)
theorem hd_X13_remember : mX13_remember.2.1.cls ≠ "java/lang/invoke/MethodHandle" ∧ mX13_remember.2.1.cls ≠ "java/lang/invoke/VarHandle" ∧ (parseMethodDescriptor mX13_remember.2.1.desc).map (fun d => d.parameters.length) = some 3 := ⟨by decide +kernel, by decide +kernel, by decide +kernel⟩
abbrev mX13_lose : zM := (RX13, yX13_lose, cX13_lose, 3, (some .boolean), [], none)
theorem hd_X13_lose : mX13_lose.2.1.cls ≠ "java/lang/invoke/MethodHandle" ∧ mX13_lose.2.1.cls ≠ "java/lang/invoke/VarHandle" ∧ (parseMethodDescriptor mX13_lose.2.1.desc).map (fun d => d.parameters.length) = some 2 := ⟨by decide +kernel, by decide +kernel, by decide +kernel⟩
abbrev mX13_coin : zM := (RX13, yX13_coin, cX13_coin, 4, (some .int), [], none)
theorem hd_X13_coin : mX13_coin.2.1.cls ≠ "java/lang/invoke/MethodHandle" ∧ mX13_coin.2.1.cls ≠ "java/lang/invoke/VarHandle" ∧ (parseMethodDescriptor mX13_coin.2.1.desc).map (fun d => d.parameters.length) = some 3 := ⟨by decide +kernel, by decide +kernel, by decide +kernel⟩
abbrev mX13_isName : zM := (RX13, yX13_isName, cX13_isName, 3, (some .boolean), [], none)
theorem hd_X13_isName : mX13_isName.2.1.cls ≠ "java/lang/invoke/MethodHandle" ∧ mX13_isName.2.1.cls ≠ "java/lang/invoke/VarHandle" ∧ (parseMethodDescriptor mX13_isName.2.1.desc).map (fun d => d.parameters.length) = some 1 := ⟨by decide +kernel, by decide +kernel, by decide +kernel⟩
abbrev mX13_undo : zM := (RX13, yX13_undo, cX13_undo, 3, (some .int), [], none)
theorem hd_X13_undo : mX13_undo.2.1.cls ≠ "java/lang/invoke/MethodHandle" ∧ mX13_undo.2.1.cls ≠ "java/lang/invoke/VarHandle" ∧ (parseMethodDescriptor mX13_undo.2.1.desc).map (fun d => d.parameters.length) = some 0 := ⟨by decide +kernel, by decide +kernel, by decide +kernel⟩
abbrev mX13_serving : zM := (RX13, yX13_serving, cX13_serving, 3, (some .int), [], none)
theorem hd_X13_serving : mX13_serving.2.1.cls ≠ "java/lang/invoke/MethodHandle" ∧ mX13_serving.2.1.cls ≠ "java/lang/invoke/VarHandle" ∧ (parseMethodDescriptor mX13_serving.2.1.desc).map (fun d => d.parameters.length) = some 2 := ⟨by decide +kernel, by decide +kernel, by decide +kernel⟩
abbrev mX13_areRows : zM := (RX13, yX13_areRows, cX13_areRows, 2, (some .boolean), [], none)
theorem hd_X13_areRows : mX13_areRows.2.1.cls ≠ "java/lang/invoke/MethodHandle" ∧ mX13_areRows.2.1.cls ≠ "java/lang/invoke/VarHandle" ∧ (parseMethodDescriptor mX13_areRows.2.1.desc).map (fun d => d.parameters.length) = some 2 := ⟨by decide +kernel, by decide +kernel, by decide +kernel⟩
abbrev mX13_anyLetters : zM := (RX13, yX13_anyLetters, cX13_anyLetters, 2, none, [], none)
theorem hd_X13_anyLetters : mX13_anyLetters.2.1.cls ≠ "java/lang/invoke/MethodHandle" ∧ mX13_anyLetters.2.1.cls ≠ "java/lang/invoke/VarHandle" ∧ (parseMethodDescriptor mX13_anyLetters.2.1.desc).map (fun d => d.parameters.length) = some 0 := ⟨by decide +kernel, by decide +kernel, by decide +kernel⟩
abbrev mX13_layRows : zM := (RX13, yX13_layRows, cX13_layRows, 6, none, [], none)
theorem hd_X13_layRows : mX13_layRows.2.1.cls ≠ "java/lang/invoke/MethodHandle" ∧ mX13_layRows.2.1.cls ≠ "java/lang/invoke/VarHandle" ∧ (parseMethodDescriptor mX13_layRows.2.1.desc).map (fun d => d.parameters.length) = some 2 := ⟨by decide +kernel, by decide +kernel, by decide +kernel⟩
abbrev mX13_slot : zM := (RX13, yX13_slot, cX13_slot, 3, (some .int), [], none)
theorem hd_X13_slot : mX13_slot.2.1.cls ≠ "java/lang/invoke/MethodHandle" ∧ mX13_slot.2.1.cls ≠ "java/lang/invoke/VarHandle" ∧ (parseMethodDescriptor mX13_slot.2.1.desc).map (fun d => d.parameters.length) = some 3 := ⟨by decide +kernel, by decide +kernel, by decide +kernel⟩
abbrev mX13_isSpot : zM := (RX13, yX13_isSpot, cX13_isSpot, 3, (some .boolean), [], none)
theorem hd_X13_isSpot : mX13_isSpot.2.1.cls ≠ "java/lang/invoke/MethodHandle" ∧ mX13_isSpot.2.1.cls ≠ "java/lang/invoke/VarHandle" ∧ (parseMethodDescriptor mX13_isSpot.2.1.desc).map (fun d => d.parameters.length) = some 2 := ⟨by decide +kernel, by decide +kernel, by decide +kernel⟩
abbrev mX13_leastOf : zM := (RX13, yX13_leastOf, cX13_leastOf, 14, (some .int), [], none)
theorem hd_X13_leastOf : mX13_leastOf.2.1.cls ≠ "java/lang/invoke/MethodHandle" ∧ mX13_leastOf.2.1.cls ≠ "java/lang/invoke/VarHandle" ∧ (parseMethodDescriptor mX13_leastOf.2.1.desc).map (fun d => d.parameters.length) = some 3 := ⟨by decide +kernel, by decide +kernel, by decide +kernel⟩
abbrev mX13_letterTo : zM := (RX13, yX13_letterTo, cX13_letterTo, 5, (some .int), [], none)
theorem hd_X13_letterTo : mX13_letterTo.2.1.cls ≠ "java/lang/invoke/MethodHandle" ∧ mX13_letterTo.2.1.cls ≠ "java/lang/invoke/VarHandle" ∧ (parseMethodDescriptor mX13_letterTo.2.1.desc).map (fun d => d.parameters.length) = some 3 := ⟨by decide +kernel, by decide +kernel, by decide +kernel⟩
abbrev mX13_goes : zM := (RX13, yX13_goes, cX13_goes, 7, (some .int), [], none)
theorem hd_X13_goes : mX13_goes.2.1.cls ≠ "java/lang/invoke/MethodHandle" ∧ mX13_goes.2.1.cls ≠ "java/lang/invoke/VarHandle" ∧ (parseMethodDescriptor mX13_goes.2.1.desc).map (fun d => d.parameters.length) = some 4 := ⟨by decide +kernel, by decide +kernel, by decide +kernel⟩
abbrev mX13_behind : zM := (RX13, yX13_behind, cX13_behind, 4, (some .int), [], none)
theorem hd_X13_behind : mX13_behind.2.1.cls ≠ "java/lang/invoke/MethodHandle" ∧ mX13_behind.2.1.cls ≠ "java/lang/invoke/VarHandle" ∧ (parseMethodDescriptor mX13_behind.2.1.desc).map (fun d => d.parameters.length) = some 3 := ⟨by decide +kernel, by decide +kernel, by decide +kernel⟩
abbrev mX13_manyRows : zM := (RX13, yX13_manyRows, cX13_manyRows, 1, (some .int), [], none)
theorem hd_X13_manyRows : mX13_manyRows.2.1.cls ≠ "java/lang/invoke/MethodHandle" ∧ mX13_manyRows.2.1.cls ≠ "java/lang/invoke/VarHandle" ∧ (parseMethodDescriptor mX13_manyRows.2.1.desc).map (fun d => d.parameters.length) = some 0 := ⟨by decide +kernel, by decide +kernel, by decide +kernel⟩
abbrev mX13_layAll : zM := (RX13, yX13_layAll, cX13_layAll, 4, none, [], none)
theorem hd_X13_layAll : mX13_layAll.2.1.cls ≠ "java/lang/invoke/MethodHandle" ∧ mX13_layAll.2.1.cls ≠ "java/lang/invoke/VarHandle" ∧ (parseMethodDescriptor mX13_layAll.2.1.desc).map (fun d => d.parameters.length) = some 2 := ⟨by decide +kernel, by decide +kernel, by decide +kernel⟩
abbrev mX13_step : zM := (RX13, yX13_step, cX13_step, 3, (some .int), [], none)
theorem hd_X13_step : mX13_step.2.1.cls ≠ "java/lang/invoke/MethodHandle" ∧ mX13_step.2.1.cls ≠ "java/lang/invoke/VarHandle" ∧ (parseMethodDescriptor mX13_step.2.1.desc).map (fun d => d.parameters.length) = some 2 := ⟨by decide +kernel, by decide +kernel, by decide +kernel⟩
abbrev mX13_layStep : zM := (RX13, yX13_layStep, cX13_layStep, 9, none, [], none)
theorem hd_X13_layStep : mX13_layStep.2.1.cls ≠ "java/lang/invoke/MethodHandle" ∧ mX13_layStep.2.1.cls ≠ "java/lang/invoke/VarHandle" ∧ (parseMethodDescriptor mX13_layStep.2.1.desc).map (fun d => d.parameters.length) = some 4 := ⟨by decide +kernel, by decide +kernel, by decide +kernel⟩
abbrev mX13_stillOf : zM := (RX13, yX13_stillOf, cX13_stillOf, 5, (some .int), [], none)
theorem hd_X13_stillOf : mX13_stillOf.2.1.cls ≠ "java/lang/invoke/MethodHandle" ∧ mX13_stillOf.2.1.cls ≠ "java/lang/invoke/VarHandle" ∧ (parseMethodDescriptor mX13_stillOf.2.1.desc).map (fun d => d.parameters.length) = some 1 := ⟨by decide +kernel, by decide +kernel, by decide +kernel⟩
abbrev mX13_rowTold : zM := (RX13, yX13_rowTold, cX13_rowTold, 5, (some .long), [], none)
theorem hd_X13_rowTold : mX13_rowTold.2.1.cls ≠ "java/lang/invoke/MethodHandle" ∧ mX13_rowTold.2.1.cls ≠ "java/lang/invoke/VarHandle" ∧ (parseMethodDescriptor mX13_rowTold.2.1.desc).map (fun d => d.parameters.length) = some 1 := ⟨by decide +kernel, by decide +kernel, by decide +kernel⟩
abbrev mX13_serves : zM := (RX13, yX13_serves, cX13_serves, 4, (some .long), [], none)
theorem hd_X13_serves : mX13_serves.2.1.cls ≠ "java/lang/invoke/MethodHandle" ∧ mX13_serves.2.1.cls ≠ "java/lang/invoke/VarHandle" ∧ (parseMethodDescriptor mX13_serves.2.1.desc).map (fun d => d.parameters.length) = some 3 := ⟨by decide +kernel, by decide +kernel, by decide +kernel⟩
abbrev mX13_rowAt : zM := (RX13, yX13_rowAt, cX13_rowAt, 2, (some .long), [], none)
theorem hd_X13_rowAt : mX13_rowAt.2.1.cls ≠ "java/lang/invoke/MethodHandle" ∧ mX13_rowAt.2.1.cls ≠ "java/lang/invoke/VarHandle" ∧ (parseMethodDescriptor mX13_rowAt.2.1.desc).map (fun d => d.parameters.length) = some 1 := ⟨by decide +kernel, by decide +kernel, by decide +kernel⟩
abbrev mX13_lightest : zM := (RX13, yX13_lightest, cX13_lightest, 4, (some .int), [], none)
theorem hd_X13_lightest : mX13_lightest.2.1.cls ≠ "java/lang/invoke/MethodHandle" ∧ mX13_lightest.2.1.cls ≠ "java/lang/invoke/VarHandle" ∧ (parseMethodDescriptor mX13_lightest.2.1.desc).map (fun d => d.parameters.length) = some 2 := ⟨by decide +kernel, by decide +kernel, by decide +kernel⟩
abbrev mX13_light : zM := (RX13, yX13_light, cX13_light, 6, (some .long), [], none)
theorem hd_X13_light : mX13_light.2.1.cls ≠ "java/lang/invoke/MethodHandle" ∧ mX13_light.2.1.cls ≠ "java/lang/invoke/VarHandle" ∧ (parseMethodDescriptor mX13_light.2.1.desc).map (fun d => d.parameters.length) = some 2 := ⟨by decide +kernel, by decide +kernel, by decide +kernel⟩
abbrev mX13_charred : zM := (RX13, yX13_charred, cX13_charred, 2, (some .int), [], none)
theorem hd_X13_charred : mX13_charred.2.1.cls ≠ "java/lang/invoke/MethodHandle" ∧ mX13_charred.2.1.cls ≠ "java/lang/invoke/VarHandle" ∧ (parseMethodDescriptor mX13_charred.2.1.desc).map (fun d => d.parameters.length) = some 1 := ⟨by decide +kernel, by decide +kernel, by decide +kernel⟩
abbrev mX13_layCharred : zM := (RX13, yX13_layCharred, cX13_layCharred, 3, none, [], none)
theorem hd_X13_layCharred : mX13_layCharred.2.1.cls ≠ "java/lang/invoke/MethodHandle" ∧ mX13_layCharred.2.1.cls ≠ "java/lang/invoke/VarHandle" ∧ (parseMethodDescriptor mX13_layCharred.2.1.desc).map (fun d => d.parameters.length) = some 1 := ⟨by decide +kernel, by decide +kernel, by decide +kernel⟩
abbrev mX13_filled : zM := (RX13, yX13_filled, cX13_filled, 3, (some .long), [], none)
theorem hd_X13_filled : mX13_filled.2.1.cls ≠ "java/lang/invoke/MethodHandle" ∧ mX13_filled.2.1.cls ≠ "java/lang/invoke/VarHandle" ∧ (parseMethodDescriptor mX13_filled.2.1.desc).map (fun d => d.parameters.length) = some 2 := ⟨by decide +kernel, by decide +kernel, by decide +kernel⟩
abbrev mX13_told : zM := (RX13, yX13_told, cX13_told, 3, (some .int), [], none)
theorem hd_X13_told : mX13_told.2.1.cls ≠ "java/lang/invoke/MethodHandle" ∧ mX13_told.2.1.cls ≠ "java/lang/invoke/VarHandle" ∧ (parseMethodDescriptor mX13_told.2.1.desc).map (fun d => d.parameters.length) = some 2 := ⟨by decide +kernel, by decide +kernel, by decide +kernel⟩
abbrev mX13_toldBy : zM := (RX13, yX13_toldBy, cX13_toldBy, 6, (some .int), [], none)
theorem hd_X13_toldBy : mX13_toldBy.2.1.cls ≠ "java/lang/invoke/MethodHandle" ∧ mX13_toldBy.2.1.cls ≠ "java/lang/invoke/VarHandle" ∧ (parseMethodDescriptor mX13_toldBy.2.1.desc).map (fun d => d.parameters.length) = some 2 := ⟨by decide +kernel, by decide +kernel, by decide +kernel⟩
abbrev mX13_servesBy : zM := (RX13, yX13_servesBy, cX13_servesBy, 6, (some .boolean), [], none)
theorem hd_X13_servesBy : mX13_servesBy.2.1.cls ≠ "java/lang/invoke/MethodHandle" ∧ mX13_servesBy.2.1.cls ≠ "java/lang/invoke/VarHandle" ∧ (parseMethodDescriptor mX13_servesBy.2.1.desc).map (fun d => d.parameters.length) = some 4 := ⟨by decide +kernel, by decide +kernel, by decide +kernel⟩
abbrev mX13_sure : zM := (RX13, yX13_sure, cX13_sure, 4, (some .int), [], none)
theorem hd_X13_sure : mX13_sure.2.1.cls ≠ "java/lang/invoke/MethodHandle" ∧ mX13_sure.2.1.cls ≠ "java/lang/invoke/VarHandle" ∧ (parseMethodDescriptor mX13_sure.2.1.desc).map (fun d => d.parameters.length) = some 1 := ⟨by decide +kernel, by decide +kernel, by decide +kernel⟩
abbrev mX13_broken : zM := (RX13, yX13_broken, cX13_broken, 1, (some .int), [], none)
theorem hd_X13_broken : mX13_broken.2.1.cls ≠ "java/lang/invoke/MethodHandle" ∧ mX13_broken.2.1.cls ≠ "java/lang/invoke/VarHandle" ∧ (parseMethodDescriptor mX13_broken.2.1.desc).map (fun d => d.parameters.length) = some 0 := ⟨by decide +kernel, by decide +kernel, by decide +kernel⟩
abbrev mX13_noTakes : zM := (RX13, yX13_noTakes, cX13_noTakes, 2, none, [], none)
theorem hd_X13_noTakes : mX13_noTakes.2.1.cls ≠ "java/lang/invoke/MethodHandle" ∧ mX13_noTakes.2.1.cls ≠ "java/lang/invoke/VarHandle" ∧ (parseMethodDescriptor mX13_noTakes.2.1.desc).map (fun d => d.parameters.length) = some 0 := ⟨by decide +kernel, by decide +kernel, by decide +kernel⟩
abbrev mX13_firstBroken : zM := (RX13, yX13_firstBroken, cX13_firstBroken, 2, (some .int), [], none)
theorem hd_X13_firstBroken : mX13_firstBroken.2.1.cls ≠ "java/lang/invoke/MethodHandle" ∧ mX13_firstBroken.2.1.cls ≠ "java/lang/invoke/VarHandle" ∧ (parseMethodDescriptor mX13_firstBroken.2.1.desc).map (fun d => d.parameters.length) = some 0 := ⟨by decide +kernel, by decide +kernel, by decide +kernel⟩
abbrev mX13_isAgreed : zM := (RX13, yX13_isAgreed, cX13_isAgreed, 4, (some .boolean), [], none)
theorem hd_X13_isAgreed : mX13_isAgreed.2.1.cls ≠ "java/lang/invoke/MethodHandle" ∧ mX13_isAgreed.2.1.cls ≠ "java/lang/invoke/VarHandle" ∧ (parseMethodDescriptor mX13_isAgreed.2.1.desc).map (fun d => d.parameters.length) = some 1 := ⟨by decide +kernel, by decide +kernel, by decide +kernel⟩
abbrev mX13_letterBy : zM := (RX13, yX13_letterBy, cX13_letterBy, 3, (some .int), [], none)
theorem hd_X13_letterBy : mX13_letterBy.2.1.cls ≠ "java/lang/invoke/MethodHandle" ∧ mX13_letterBy.2.1.cls ≠ "java/lang/invoke/VarHandle" ∧ (parseMethodDescriptor mX13_letterBy.2.1.desc).map (fun d => d.parameters.length) = some 2 := ⟨by decide +kernel, by decide +kernel, by decide +kernel⟩
abbrev mX13_renamed : zM := (RX13, yX13_renamed, cX13_renamed, 1, (some .int), [], none)
theorem hd_X13_renamed : mX13_renamed.2.1.cls ≠ "java/lang/invoke/MethodHandle" ∧ mX13_renamed.2.1.cls ≠ "java/lang/invoke/VarHandle" ∧ (parseMethodDescriptor mX13_renamed.2.1.desc).map (fun d => d.parameters.length) = some 0 := ⟨by decide +kernel, by decide +kernel, by decide +kernel⟩
abbrev mX13_layRenamed : zM := (RX13, yX13_layRenamed, cX13_layRenamed, 4, none, [], none)
theorem hd_X13_layRenamed : mX13_layRenamed.2.1.cls ≠ "java/lang/invoke/MethodHandle" ∧ mX13_layRenamed.2.1.cls ≠ "java/lang/invoke/VarHandle" ∧ (parseMethodDescriptor mX13_layRenamed.2.1.desc).map (fun d => d.parameters.length) = some 0 := ⟨by decide +kernel, by decide +kernel, by decide +kernel⟩
abbrev mX13_takesNow : zM := (RX13, yX13_takesNow, cX13_takesNow, 3, (some .int), [], none)
theorem hd_X13_takesNow : mX13_takesNow.2.1.cls ≠ "java/lang/invoke/MethodHandle" ∧ mX13_takesNow.2.1.cls ≠ "java/lang/invoke/VarHandle" ∧ (parseMethodDescriptor mX13_takesNow.2.1.desc).map (fun d => d.parameters.length) = some 0 := ⟨by decide +kernel, by decide +kernel, by decide +kernel⟩
abbrev mX13_areTakes : zM := (RX13, yX13_areTakes, cX13_areTakes, 3, (some .boolean), [], none)
theorem hd_X13_areTakes : mX13_areTakes.2.1.cls ≠ "java/lang/invoke/MethodHandle" ∧ mX13_areTakes.2.1.cls ≠ "java/lang/invoke/VarHandle" ∧ (parseMethodDescriptor mX13_areTakes.2.1.desc).map (fun d => d.parameters.length) = some 0 := ⟨by decide +kernel, by decide +kernel, by decide +kernel⟩
abbrev mX13_nextTakes : zM := (RX13, yX13_nextTakes, cX13_nextTakes, 2, (some .boolean), [], none)
theorem hd_X13_nextTakes : mX13_nextTakes.2.1.cls ≠ "java/lang/invoke/MethodHandle" ∧ mX13_nextTakes.2.1.cls ≠ "java/lang/invoke/VarHandle" ∧ (parseMethodDescriptor mX13_nextTakes.2.1.desc).map (fun d => d.parameters.length) = some 0 := ⟨by decide +kernel, by decide +kernel, by decide +kernel⟩
abbrev mX13_renames : zM := (RX13, yX13_renames, cX13_renames, 2, (some .int), [], none)
theorem hd_X13_renames : mX13_renames.2.1.cls ≠ "java/lang/invoke/MethodHandle" ∧ mX13_renames.2.1.cls ≠ "java/lang/invoke/VarHandle" ∧ (parseMethodDescriptor mX13_renames.2.1.desc).map (fun d => d.parameters.length) = some 1 := ⟨by decide +kernel, by decide +kernel, by decide +kernel⟩
abbrev mX13_fine : zM := (RX13, yX13_fine, cX13_fine, 3, (some .int), [], none)
theorem hd_X13_fine : mX13_fine.2.1.cls ≠ "java/lang/invoke/MethodHandle" ∧ mX13_fine.2.1.cls ≠ "java/lang/invoke/VarHandle" ∧ (parseMethodDescriptor mX13_fine.2.1.desc).map (fun d => d.parameters.length) = some 2 := ⟨by decide +kernel, by decide +kernel, by decide +kernel⟩
abbrev mX13_fineOn : zM := (RX13, yX13_fineOn, cX13_fineOn, 5, (some .int), [], none)
theorem hd_X13_fineOn : mX13_fineOn.2.1.cls ≠ "java/lang/invoke/MethodHandle" ∧ mX13_fineOn.2.1.cls ≠ "java/lang/invoke/VarHandle" ∧ (parseMethodDescriptor mX13_fineOn.2.1.desc).map (fun d => d.parameters.length) = some 2 := ⟨by decide +kernel, by decide +kernel, by decide +kernel⟩
abbrev mX13_valueOf : zM := (RX13, yX13_valueOf, cX13_valueOf, 6, (some .long), [], none)
theorem hd_X13_valueOf : mX13_valueOf.2.1.cls ≠ "java/lang/invoke/MethodHandle" ∧ mX13_valueOf.2.1.cls ≠ "java/lang/invoke/VarHandle" ∧ (parseMethodDescriptor mX13_valueOf.2.1.desc).map (fun d => d.parameters.length) = some 1 := ⟨by decide +kernel, by decide +kernel, by decide +kernel⟩
abbrev mX13_bounded : zM := (RX13, yX13_bounded, cX13_bounded, 3, (some .long), [], none)
theorem hd_X13_bounded : mX13_bounded.2.1.cls ≠ "java/lang/invoke/MethodHandle" ∧ mX13_bounded.2.1.cls ≠ "java/lang/invoke/VarHandle" ∧ (parseMethodDescriptor mX13_bounded.2.1.desc).map (fun d => d.parameters.length) = some 1 := ⟨by decide +kernel, by decide +kernel, by decide +kernel⟩
abbrev mX13_times : zM := (RX13, yX13_times, cX13_times, 6, (some .long), [], none)
theorem hd_X13_times : mX13_times.2.1.cls ≠ "java/lang/invoke/MethodHandle" ∧ mX13_times.2.1.cls ≠ "java/lang/invoke/VarHandle" ∧ (parseMethodDescriptor mX13_times.2.1.desc).map (fun d => d.parameters.length) = some 2 := ⟨by decide +kernel, by decide +kernel, by decide +kernel⟩
abbrev mX13_compares : zM := (RX13, yX13_compares, cX13_compares, 5, (some .boolean), [], none)
theorem hd_X13_compares : mX13_compares.2.1.cls ≠ "java/lang/invoke/MethodHandle" ∧ mX13_compares.2.1.cls ≠ "java/lang/invoke/VarHandle" ∧ (parseMethodDescriptor mX13_compares.2.1.desc).map (fun d => d.parameters.length) = some 3 := ⟨by decide +kernel, by decide +kernel, by decide +kernel⟩
abbrev mX13_bought : zM := (RX13, yX13_bought, cX13_bought, 10, (some .int), [], none)
theorem hd_X13_bought : mX13_bought.2.1.cls ≠ "java/lang/invoke/MethodHandle" ∧ mX13_bought.2.1.cls ≠ "java/lang/invoke/VarHandle" ∧ (parseMethodDescriptor mX13_bought.2.1.desc).map (fun d => d.parameters.length) = some 2 := ⟨by decide +kernel, by decide +kernel, by decide +kernel⟩
abbrev mX13_isOf : zM := (RX13, yX13_isOf, cX13_isOf, 2, (some .boolean), [], none)
theorem hd_X13_isOf : mX13_isOf.2.1.cls ≠ "java/lang/invoke/MethodHandle" ∧ mX13_isOf.2.1.cls ≠ "java/lang/invoke/VarHandle" ∧ (parseMethodDescriptor mX13_isOf.2.1.desc).map (fun d => d.parameters.length) = some 2 := ⟨by decide +kernel, by decide +kernel, by decide +kernel⟩
abbrev mX13_keep : zM := (RX13, yX13_keep, cX13_keep, 2, (some .int), [], none)
theorem hd_X13_keep : mX13_keep.2.1.cls ≠ "java/lang/invoke/MethodHandle" ∧ mX13_keep.2.1.cls ≠ "java/lang/invoke/VarHandle" ∧ (parseMethodDescriptor mX13_keep.2.1.desc).map (fun d => d.parameters.length) = some 0 := ⟨by decide +kernel, by decide +kernel, by decide +kernel⟩
abbrev mX13_back : zM := (RX13, yX13_back, cX13_back, 2, (some .int), [], none)
theorem hd_X13_back : mX13_back.2.1.cls ≠ "java/lang/invoke/MethodHandle" ∧ mX13_back.2.1.cls ≠ "java/lang/invoke/VarHandle" ∧ (parseMethodDescriptor mX13_back.2.1.desc).map (fun d => d.parameters.length) = some 0 := ⟨by decide +kernel, by decide +kernel, by decide +kernel⟩
abbrev mX13_count : zM := (RX13, yX13_count, cX13_count, 2, (some .int), [], none)
theorem hd_X13_count : mX13_count.2.1.cls ≠ "java/lang/invoke/MethodHandle" ∧ mX13_count.2.1.cls ≠ "java/lang/invoke/VarHandle" ∧ (parseMethodDescriptor mX13_count.2.1.desc).map (fun d => d.parameters.length) = some 1 := ⟨by decide +kernel, by decide +kernel, by decide +kernel⟩
abbrev mX13_allLost : zM := (RX13, yX13_allLost, cX13_allLost, 3, (some .int), [], none)
theorem hd_X13_allLost : mX13_allLost.2.1.cls ≠ "java/lang/invoke/MethodHandle" ∧ mX13_allLost.2.1.cls ≠ "java/lang/invoke/VarHandle" ∧ (parseMethodDescriptor mX13_allLost.2.1.desc).map (fun d => d.parameters.length) = some 0 := ⟨by decide +kernel, by decide +kernel, by decide +kernel⟩
abbrev mX14_init : zM := (RX14, yX14_init, cX14_init, 3, none, [], none)
theorem hd_X14_init : mX14_init.2.1.cls ≠ "java/lang/invoke/MethodHandle" ∧ mX14_init.2.1.cls ≠ "java/lang/invoke/VarHandle" ∧ (parseMethodDescriptor mX14_init.2.1.desc).map (fun d => d.parameters.length) = some 2 := ⟨by decide +kernel, by decide +kernel, by decide +kernel⟩
abbrev mX15_init : zM := (RX15, yX15_init, cX15_init, 3, none, [], none)
theorem hd_X15_init : mX15_init.2.1.cls ≠ "java/lang/invoke/MethodHandle" ∧ mX15_init.2.1.cls ≠ "java/lang/invoke/VarHandle" ∧ (parseMethodDescriptor mX15_init.2.1.desc).map (fun d => d.parameters.length) = some 2 := ⟨by decide +kernel, by decide +kernel, by decide +kernel⟩
abbrev mX16_init : zM := (RX16, yX16_init, cX16_init, 1, none, [], none)
theorem hd_X16_init : mX16_init.2.1.cls ≠ "java/lang/invoke/MethodHandle" ∧ mX16_init.2.1.cls ≠ "java/lang/invoke/VarHandle" ∧ (parseMethodDescriptor mX16_init.2.1.desc).map (fun d => d.parameters.length) = some 0 := ⟨by decide +kernel, by decide +kernel, by decide +kernel⟩
abbrev mX17_init : zM := (RX17, yX17_init, cX17_init, 2, none, [], none)
theorem hd_X17_init : mX17_init.2.1.cls ≠ "java/lang/invoke/MethodHandle" ∧ mX17_init.2.1.cls ≠ "java/lang/invoke/VarHandle" ∧ (parseMethodDescriptor mX17_init.2.1.desc).map (fun d => d.parameters.length) = some 1 := ⟨by decide +kernel, by decide +kernel, by decide +kernel⟩
abbrev mX17_of : zM := (RX17, yX17_of, cX17_of, 2, (some .long), [], none)
theorem hd_X17_of : mX17_of.2.1.cls ≠ "java/lang/invoke/MethodHandle" ∧ mX17_of.2.1.cls ≠ "java/lang/invoke/VarHandle" ∧ (parseMethodDescriptor mX17_of.2.1.desc).map (fun d => d.parameters.length) = some 1 := ⟨by decide +kernel, by decide +kernel, by decide +kernel⟩
abbrev mX18_init : zM := (RX18, yX18_init, cX18_init, 2, none, [], none)
theorem hd_X18_init : mX18_init.2.1.cls ≠ "java/lang/invoke/MethodHandle" ∧ mX18_init.2.1.cls ≠ "java/lang/invoke/VarHandle" ∧ (parseMethodDescriptor mX18_init.2.1.desc).map (fun d => d.parameters.length) = some 1 := ⟨by decide +kernel, by decide +kernel, by decide +kernel⟩
abbrev mX18_of : zM := (RX18, yX18_of, cX18_of, 2, (some .long), [], none)
theorem hd_X18_of : mX18_of.2.1.cls ≠ "java/lang/invoke/MethodHandle" ∧ mX18_of.2.1.cls ≠ "java/lang/invoke/VarHandle" ∧ (parseMethodDescriptor mX18_of.2.1.desc).map (fun d => d.parameters.length) = some 1 := ⟨by decide +kernel, by decide +kernel, by decide +kernel⟩
abbrev mX19_init : zM := (RX19, yX19_init, cX19_init, 2, none, [], none)
theorem hd_X19_init : mX19_init.2.1.cls ≠ "java/lang/invoke/MethodHandle" ∧ mX19_init.2.1.cls ≠ "java/lang/invoke/VarHandle" ∧ (parseMethodDescriptor mX19_init.2.1.desc).map (fun d => d.parameters.length) = some 1 := ⟨by decide +kernel, by decide +kernel, by decide +kernel⟩
abbrev mX19_of : zM := (RX19, yX19_of, cX19_of, 2, (some .long), [], none)
theorem hd_X19_of : mX19_of.2.1.cls ≠ "java/lang/invoke/MethodHandle" ∧ mX19_of.2.1.cls ≠ "java/lang/invoke/VarHandle" ∧ (parseMethodDescriptor mX19_of.2.1.desc).map (fun d => d.parameters.length) = some 1 := ⟨by decide +kernel, by decide +kernel, by decide +kernel⟩
abbrev mX2_init : zM := (RX2, yX2_init, cX2_init, 2, none, [], none)
theorem hd_X2_init : mX2_init.2.1.cls ≠ "java/lang/invoke/MethodHandle" ∧ mX2_init.2.1.cls ≠ "java/lang/invoke/VarHandle" ∧ (parseMethodDescriptor mX2_init.2.1.desc).map (fun d => d.parameters.length) = some 1 := ⟨by decide +kernel, by decide +kernel, by decide +kernel⟩
abbrev mX2_read : zM := (RX2, yX2_read, cX2_read, 2, (some (.object "TwoTongues$Street")), [], none)
theorem hd_X2_read : mX2_read.2.1.cls ≠ "java/lang/invoke/MethodHandle" ∧ mX2_read.2.1.cls ≠ "java/lang/invoke/VarHandle" ∧ (parseMethodDescriptor mX2_read.2.1.desc).map (fun d => d.parameters.length) = some 1 := ⟨by decide +kernel, by decide +kernel, by decide +kernel⟩
abbrev mX2_next : zM := (RX2, yX2_next, cX2_next, 1, none, [], none)
theorem hd_X2_next : mX2_next.2.1.cls ≠ "java/lang/invoke/MethodHandle" ∧ mX2_next.2.1.cls ≠ "java/lang/invoke/VarHandle" ∧ (parseMethodDescriptor mX2_next.2.1.desc).map (fun d => d.parameters.length) = some 0 := ⟨by decide +kernel, by decide +kernel, by decide +kernel⟩
abbrev mX2_here : zM := (RX2, yX2_here, cX2_here, 1, (some .int), [], none)
theorem hd_X2_here : mX2_here.2.1.cls ≠ "java/lang/invoke/MethodHandle" ∧ mX2_here.2.1.cls ≠ "java/lang/invoke/VarHandle" ∧ (parseMethodDescriptor mX2_here.2.1.desc).map (fun d => d.parameters.length) = some 0 := ⟨by decide +kernel, by decide +kernel, by decide +kernel⟩
abbrev mX2_word : zM := (RX2, yX2_word, cX2_word, 3, (some .int), [], none)
theorem hd_X2_word : mX2_word.2.1.cls ≠ "java/lang/invoke/MethodHandle" ∧ mX2_word.2.1.cls ≠ "java/lang/invoke/VarHandle" ∧ (parseMethodDescriptor mX2_word.2.1.desc).map (fun d => d.parameters.length) = some 0 := ⟨by decide +kernel, by decide +kernel, by decide +kernel⟩
abbrev mX2_name : zM := (RX2, yX2_name, cX2_name, 2, none, [], none)
theorem hd_X2_name : mX2_name.2.1.cls ≠ "java/lang/invoke/MethodHandle" ∧ mX2_name.2.1.cls ≠ "java/lang/invoke/VarHandle" ∧ (parseMethodDescriptor mX2_name.2.1.desc).map (fun d => d.parameters.length) = some 0 := ⟨by decide +kernel, by decide +kernel, by decide +kernel⟩
abbrev mX2_sign : zM := (RX2, yX2_sign, cX2_sign, 2, none, [], none)
theorem hd_X2_sign : mX2_sign.2.1.cls ≠ "java/lang/invoke/MethodHandle" ∧ mX2_sign.2.1.cls ≠ "java/lang/invoke/VarHandle" ∧ (parseMethodDescriptor mX2_sign.2.1.desc).map (fun d => d.parameters.length) = some 0 := ⟨by decide +kernel, by decide +kernel, by decide +kernel⟩
abbrev mX2_line : zM := (RX2, yX2_line, cX2_line, 3, none, [], none)
theorem hd_X2_line : mX2_line.2.1.cls ≠ "java/lang/invoke/MethodHandle" ∧ mX2_line.2.1.cls ≠ "java/lang/invoke/VarHandle" ∧ (parseMethodDescriptor mX2_line.2.1.desc).map (fun d => d.parameters.length) = some 0 := ⟨by decide +kernel, by decide +kernel, by decide +kernel⟩
abbrev mX2_isWord : zM := (RX2, yX2_isWord, cX2_isWord, 3, (some .boolean), [], none)
theorem hd_X2_isWord : mX2_isWord.2.1.cls ≠ "java/lang/invoke/MethodHandle" ∧ mX2_isWord.2.1.cls ≠ "java/lang/invoke/VarHandle" ∧ (parseMethodDescriptor mX2_isWord.2.1.desc).map (fun d => d.parameters.length) = some 2 := ⟨by decide +kernel, by decide +kernel, by decide +kernel⟩
abbrev mX2_wrong : zM := (RX2, yX2_wrong, cX2_wrong, 2, (some (.object "TwoTongues$Fault")), [], none)
theorem hd_X2_wrong : mX2_wrong.2.1.cls ≠ "java/lang/invoke/MethodHandle" ∧ mX2_wrong.2.1.cls ≠ "java/lang/invoke/VarHandle" ∧ (parseMethodDescriptor mX2_wrong.2.1.desc).map (fun d => d.parameters.length) = some 1 := ⟨by decide +kernel, by decide +kernel, by decide +kernel⟩
abbrev mX2_isFull : zM := (RX2, yX2_isFull, cX2_isFull, 2, (some .boolean), [], none)
theorem hd_X2_isFull : mX2_isFull.2.1.cls ≠ "java/lang/invoke/MethodHandle" ∧ mX2_isFull.2.1.cls ≠ "java/lang/invoke/VarHandle" ∧ (parseMethodDescriptor mX2_isFull.2.1.desc).map (fun d => d.parameters.length) = some 1 := ⟨by decide +kernel, by decide +kernel, by decide +kernel⟩
abbrev mX2_storeLine : zM := (RX2, yX2_storeLine, cX2_storeLine, 3, none, [], none)
theorem hd_X2_storeLine : mX2_storeLine.2.1.cls ≠ "java/lang/invoke/MethodHandle" ∧ mX2_storeLine.2.1.cls ≠ "java/lang/invoke/VarHandle" ∧ (parseMethodDescriptor mX2_storeLine.2.1.desc).map (fun d => d.parameters.length) = some 1 := ⟨by decide +kernel, by decide +kernel, by decide +kernel⟩
abbrev mX2_number : zM := (RX2, yX2_number, cX2_number, 4, (some .int), [], none)
theorem hd_X2_number : mX2_number.2.1.cls ≠ "java/lang/invoke/MethodHandle" ∧ mX2_number.2.1.cls ≠ "java/lang/invoke/VarHandle" ∧ (parseMethodDescriptor mX2_number.2.1.desc).map (fun d => d.parameters.length) = some 2 := ⟨by decide +kernel, by decide +kernel, by decide +kernel⟩
abbrev mX2_signLine : zM := (RX2, yX2_signLine, cX2_signLine, 3, none, [], none)
theorem hd_X2_signLine : mX2_signLine.2.1.cls ≠ "java/lang/invoke/MethodHandle" ∧ mX2_signLine.2.1.cls ≠ "java/lang/invoke/VarHandle" ∧ (parseMethodDescriptor mX2_signLine.2.1.desc).map (fun d => d.parameters.length) = some 0 := ⟨by decide +kernel, by decide +kernel, by decide +kernel⟩
abbrev mX2_row : zM := (RX2, yX2_row, cX2_row, 3, none, [], none)
theorem hd_X2_row : mX2_row.2.1.cls ≠ "java/lang/invoke/MethodHandle" ∧ mX2_row.2.1.cls ≠ "java/lang/invoke/VarHandle" ∧ (parseMethodDescriptor mX2_row.2.1.desc).map (fun d => d.parameters.length) = some 1 := ⟨by decide +kernel, by decide +kernel, by decide +kernel⟩
abbrev mX2_corner : zM := (RX2, yX2_corner, cX2_corner, 2, none, [], none)
theorem hd_X2_corner : mX2_corner.2.1.cls ≠ "java/lang/invoke/MethodHandle" ∧ mX2_corner.2.1.cls ≠ "java/lang/invoke/VarHandle" ∧ (parseMethodDescriptor mX2_corner.2.1.desc).map (fun d => d.parameters.length) = some 0 := ⟨by decide +kernel, by decide +kernel, by decide +kernel⟩
abbrev mX2_ahead : zM := (RX2, yX2_ahead, cX2_ahead, 3, (some .int), [], none)
theorem hd_X2_ahead : mX2_ahead.2.1.cls ≠ "java/lang/invoke/MethodHandle" ∧ mX2_ahead.2.1.cls ≠ "java/lang/invoke/VarHandle" ∧ (parseMethodDescriptor mX2_ahead.2.1.desc).map (fun d => d.parameters.length) = some 1 := ⟨by decide +kernel, by decide +kernel, by decide +kernel⟩
abbrev mX2_weigh : zM := (RX2, yX2_weigh, cX2_weigh, 5, none, [], none)
theorem hd_X2_weigh : mX2_weigh.2.1.cls ≠ "java/lang/invoke/MethodHandle" ∧ mX2_weigh.2.1.cls ≠ "java/lang/invoke/VarHandle" ∧ (parseMethodDescriptor mX2_weigh.2.1.desc).map (fun d => d.parameters.length) = some 0 := ⟨by decide +kernel, by decide +kernel, by decide +kernel⟩
abbrev mX2_feast : zM := (RX2, yX2_feast, cX2_feast, 2, none, [], none)
theorem hd_X2_feast : mX2_feast.2.1.cls ≠ "java/lang/invoke/MethodHandle" ∧ mX2_feast.2.1.cls ≠ "java/lang/invoke/VarHandle" ∧ (parseMethodDescriptor mX2_feast.2.1.desc).map (fun d => d.parameters.length) = some 0 := ⟨by decide +kernel, by decide +kernel, by decide +kernel⟩
abbrev mX2_or : zM := (RX2, yX2_or, cX2_or, 3, (some (.object "TwoTongues$Part")), [], none)
theorem hd_X2_or : mX2_or.2.1.cls ≠ "java/lang/invoke/MethodHandle" ∧ mX2_or.2.1.cls ≠ "java/lang/invoke/VarHandle" ∧ (parseMethodDescriptor mX2_or.2.1.desc).map (fun d => d.parameters.length) = some 0 := ⟨by decide +kernel, by decide +kernel, by decide +kernel⟩
abbrev mX2_and : zM := (RX2, yX2_and, cX2_and, 3, (some (.object "TwoTongues$Part")), [], none)
theorem hd_X2_and : mX2_and.2.1.cls ≠ "java/lang/invoke/MethodHandle" ∧ mX2_and.2.1.cls ≠ "java/lang/invoke/VarHandle" ∧ (parseMethodDescriptor mX2_and.2.1.desc).map (fun d => d.parameters.length) = some 0 := ⟨by decide +kernel, by decide +kernel, by decide +kernel⟩
abbrev mX2_not : zM := (RX2, yX2_not, cX2_not, 1, (some (.object "TwoTongues$Part")), [], none)
theorem hd_X2_not : mX2_not.2.1.cls ≠ "java/lang/invoke/MethodHandle" ∧ mX2_not.2.1.cls ≠ "java/lang/invoke/VarHandle" ∧ (parseMethodDescriptor mX2_not.2.1.desc).map (fun d => d.parameters.length) = some 0 := ⟨by decide +kernel, by decide +kernel, by decide +kernel⟩
abbrev mX2_compare : zM := (RX2, yX2_compare, cX2_compare, 3, (some (.object "TwoTongues$Part")), [], none)
theorem hd_X2_compare : mX2_compare.2.1.cls ≠ "java/lang/invoke/MethodHandle" ∧ mX2_compare.2.1.cls ≠ "java/lang/invoke/VarHandle" ∧ (parseMethodDescriptor mX2_compare.2.1.desc).map (fun d => d.parameters.length) = some 0 := ⟨by decide +kernel, by decide +kernel, by decide +kernel⟩
abbrev mX2_sum : zM := (RX2, yX2_sum, cX2_sum, 3, (some (.object "TwoTongues$Part")), [], none)
theorem hd_X2_sum : mX2_sum.2.1.cls ≠ "java/lang/invoke/MethodHandle" ∧ mX2_sum.2.1.cls ≠ "java/lang/invoke/VarHandle" ∧ (parseMethodDescriptor mX2_sum.2.1.desc).map (fun d => d.parameters.length) = some 0 := ⟨by decide +kernel, by decide +kernel, by decide +kernel⟩
abbrev mX2_product : zM := (RX2, yX2_product, cX2_product, 3, (some (.object "TwoTongues$Part")), [], none)
theorem hd_X2_product : mX2_product.2.1.cls ≠ "java/lang/invoke/MethodHandle" ∧ mX2_product.2.1.cls ≠ "java/lang/invoke/VarHandle" ∧ (parseMethodDescriptor mX2_product.2.1.desc).map (fun d => d.parameters.length) = some 0 := ⟨by decide +kernel, by decide +kernel, by decide +kernel⟩
abbrev mX2_one : zM := (RX2, yX2_one, cX2_one, 2, (some (.object "TwoTongues$Part")), [], none)
theorem hd_X2_one : mX2_one.2.1.cls ≠ "java/lang/invoke/MethodHandle" ∧ mX2_one.2.1.cls ≠ "java/lang/invoke/VarHandle" ∧ (parseMethodDescriptor mX2_one.2.1.desc).map (fun d => d.parameters.length) = some 0 := ⟨by decide +kernel, by decide +kernel, by decide +kernel⟩
abbrev mX2_isSign : zM := (RX2, yX2_isSign, cX2_isSign, 2, (some .boolean), [], none)
theorem hd_X2_isSign : mX2_isSign.2.1.cls ≠ "java/lang/invoke/MethodHandle" ∧ mX2_isSign.2.1.cls ≠ "java/lang/invoke/VarHandle" ∧ (parseMethodDescriptor mX2_isSign.2.1.desc).map (fun d => d.parameters.length) = some 1 := ⟨by decide +kernel, by decide +kernel, by decide +kernel⟩
abbrev mX2_knot : zM := (RX2, yX2_knot, cX2_knot, 2, (some .int), [], none)
theorem hd_X2_knot : mX2_knot.2.1.cls ≠ "java/lang/invoke/MethodHandle" ∧ mX2_knot.2.1.cls ≠ "java/lang/invoke/VarHandle" ∧ (parseMethodDescriptor mX2_knot.2.1.desc).map (fun d => d.parameters.length) = some 0 := ⟨by decide +kernel, by decide +kernel, by decide +kernel⟩
abbrev mX20_init : zM := (RX20, yX20_init, cX20_init, 4, none, [], none)
theorem hd_X20_init : mX20_init.2.1.cls ≠ "java/lang/invoke/MethodHandle" ∧ mX20_init.2.1.cls ≠ "java/lang/invoke/VarHandle" ∧ (parseMethodDescriptor mX20_init.2.1.desc).map (fun d => d.parameters.length) = some 3 := ⟨by decide +kernel, by decide +kernel, by decide +kernel⟩
abbrev mX20_of : zM := (RX20, yX20_of, cX20_of, 6, (some .long), [], none)
theorem hd_X20_of : mX20_of.2.1.cls ≠ "java/lang/invoke/MethodHandle" ∧ mX20_of.2.1.cls ≠ "java/lang/invoke/VarHandle" ∧ (parseMethodDescriptor mX20_of.2.1.desc).map (fun d => d.parameters.length) = some 1 := ⟨by decide +kernel, by decide +kernel, by decide +kernel⟩
abbrev mX20_times : zM := (RX20, yX20_times, cX20_times, 4, (some .long), [], none)
theorem hd_X20_times : mX20_times.2.1.cls ≠ "java/lang/invoke/MethodHandle" ∧ mX20_times.2.1.cls ≠ "java/lang/invoke/VarHandle" ∧ (parseMethodDescriptor mX20_times.2.1.desc).map (fun d => d.parameters.length) = some 2 := ⟨by decide +kernel, by decide +kernel, by decide +kernel⟩
abbrev mX20_is : zM := (RX20, yX20_is, cX20_is, 1, (some .long), [], none)
theorem hd_X20_is : mX20_is.2.1.cls ≠ "java/lang/invoke/MethodHandle" ∧ mX20_is.2.1.cls ≠ "java/lang/invoke/VarHandle" ∧ (parseMethodDescriptor mX20_is.2.1.desc).map (fun d => d.parameters.length) = some 1 := ⟨by decide +kernel, by decide +kernel, by decide +kernel⟩
abbrev mX3_init : zM := (RX3, yX3_init, cX3_init, 2, none, [], none)
theorem hd_X3_init : mX3_init.2.1.cls ≠ "java/lang/invoke/MethodHandle" ∧ mX3_init.2.1.cls ≠ "java/lang/invoke/VarHandle" ∧ (parseMethodDescriptor mX3_init.2.1.desc).map (fun d => d.parameters.length) = some 0 := ⟨by decide +kernel, by decide +kernel, by decide +kernel⟩
abbrev mX3_find : zM := (RX3, yX3_find, cX3_find, 3, (some .int), [], none)
theorem hd_X3_find : mX3_find.2.1.cls ≠ "java/lang/invoke/MethodHandle" ∧ mX3_find.2.1.cls ≠ "java/lang/invoke/VarHandle" ∧ (parseMethodDescriptor mX3_find.2.1.desc).map (fun d => d.parameters.length) = some 1 := ⟨by decide +kernel, by decide +kernel, by decide +kernel⟩
abbrev mX3_isCovered : zM := (RX3, yX3_isCovered, cX3_isCovered, 4, (some .boolean), [], none)
theorem hd_X3_isCovered : mX3_isCovered.2.1.cls ≠ "java/lang/invoke/MethodHandle" ∧ mX3_isCovered.2.1.cls ≠ "java/lang/invoke/VarHandle" ∧ (parseMethodDescriptor mX3_isCovered.2.1.desc).map (fun d => d.parameters.length) = some 2 := ⟨by decide +kernel, by decide +kernel, by decide +kernel⟩
abbrev mX3_iron : zM := (RX3, yX3_iron, cX3_iron, 4, (some .int), [], none)
theorem hd_X3_iron : mX3_iron.2.1.cls ≠ "java/lang/invoke/MethodHandle" ∧ mX3_iron.2.1.cls ≠ "java/lang/invoke/VarHandle" ∧ (parseMethodDescriptor mX3_iron.2.1.desc).map (fun d => d.parameters.length) = some 1 := ⟨by decide +kernel, by decide +kernel, by decide +kernel⟩
abbrev mX4_init : zM := (RX4, yX4_init, cX4_init, 1, none, [], none)
theorem hd_X4_init : mX4_init.2.1.cls ≠ "java/lang/invoke/MethodHandle" ∧ mX4_init.2.1.cls ≠ "java/lang/invoke/VarHandle" ∧ (parseMethodDescriptor mX4_init.2.1.desc).map (fun d => d.parameters.length) = some 0 := ⟨by decide +kernel, by decide +kernel, by decide +kernel⟩
abbrev mX4_become : zM := (RX4, yX4_become, cX4_become, 3, none, [], none)
theorem hd_X4_become : mX4_become.2.1.cls ≠ "java/lang/invoke/MethodHandle" ∧ mX4_become.2.1.cls ≠ "java/lang/invoke/VarHandle" ∧ (parseMethodDescriptor mX4_become.2.1.desc).map (fun d => d.parameters.length) = some 1 := ⟨by decide +kernel, by decide +kernel, by decide +kernel⟩
abbrev mX4_find : zM := (RX4, yX4_find, cX4_find, 3, (some .int), [], none)
theorem hd_X4_find : mX4_find.2.1.cls ≠ "java/lang/invoke/MethodHandle" ∧ mX4_find.2.1.cls ≠ "java/lang/invoke/VarHandle" ∧ (parseMethodDescriptor mX4_find.2.1.desc).map (fun d => d.parameters.length) = some 1 := ⟨by decide +kernel, by decide +kernel, by decide +kernel⟩
abbrev mX4_add : zM := (RX4, yX4_add, cX4_add, 3, none, [], none)
theorem hd_X4_add : mX4_add.2.1.cls ≠ "java/lang/invoke/MethodHandle" ∧ mX4_add.2.1.cls ≠ "java/lang/invoke/VarHandle" ∧ (parseMethodDescriptor mX4_add.2.1.desc).map (fun d => d.parameters.length) = some 2 := ⟨by decide +kernel, by decide +kernel, by decide +kernel⟩
abbrev mX4_length : zM := (RX4, yX4_length, cX4_length, 3, (some .int), [], none)
theorem hd_X4_length : mX4_length.2.1.cls ≠ "java/lang/invoke/MethodHandle" ∧ mX4_length.2.1.cls ≠ "java/lang/invoke/VarHandle" ∧ (parseMethodDescriptor mX4_length.2.1.desc).map (fun d => d.parameters.length) = some 1 := ⟨by decide +kernel, by decide +kernel, by decide +kernel⟩
abbrev mX4_letter : zM := (RX4, yX4_letter, cX4_letter, 3, (some .int), [], none)
theorem hd_X4_letter : mX4_letter.2.1.cls ≠ "java/lang/invoke/MethodHandle" ∧ mX4_letter.2.1.cls ≠ "java/lang/invoke/VarHandle" ∧ (parseMethodDescriptor mX4_letter.2.1.desc).map (fun d => d.parameters.length) = some 2 := ⟨by decide +kernel, by decide +kernel, by decide +kernel⟩
abbrev mX5_init : zM := (RX5, yX5_init, cX5_init, 1, none, [], none)
theorem hd_X5_init : mX5_init.2.1.cls ≠ "java/lang/invoke/MethodHandle" ∧ mX5_init.2.1.cls ≠ "java/lang/invoke/VarHandle" ∧ (parseMethodDescriptor mX5_init.2.1.desc).map (fun d => d.parameters.length) = some 0 := ⟨by decide +kernel, by decide +kernel, by decide +kernel⟩
abbrev mX6_init : zM := (RX6, yX6_init, cX6_init, 1, none, [], none)
theorem hd_X6_init : mX6_init.2.1.cls ≠ "java/lang/invoke/MethodHandle" ∧ mX6_init.2.1.cls ≠ "java/lang/invoke/VarHandle" ∧ (parseMethodDescriptor mX6_init.2.1.desc).map (fun d => d.parameters.length) = some 0 := ⟨by decide +kernel, by decide +kernel, by decide +kernel⟩
abbrev mX6_isFromRight : zM := (RX6, yX6_isFromRight, cX6_isFromRight, 2, (some .boolean), [], none)
theorem hd_X6_isFromRight : mX6_isFromRight.2.1.cls ≠ "java/lang/invoke/MethodHandle" ∧ mX6_isFromRight.2.1.cls ≠ "java/lang/invoke/VarHandle" ∧ (parseMethodDescriptor mX6_isFromRight.2.1.desc).map (fun d => d.parameters.length) = some 1 := ⟨by decide +kernel, by decide +kernel, by decide +kernel⟩
abbrev mX7_init : zM := (RX7, yX7_init, cX7_init, 1, none, [], none)
theorem hd_X7_init : mX7_init.2.1.cls ≠ "java/lang/invoke/MethodHandle" ∧ mX7_init.2.1.cls ≠ "java/lang/invoke/VarHandle" ∧ (parseMethodDescriptor mX7_init.2.1.desc).map (fun d => d.parameters.length) = some 0 := ⟨by decide +kernel, by decide +kernel, by decide +kernel⟩
abbrev mX7_isFromRight : zM := (RX7, yX7_isFromRight, cX7_isFromRight, 2, (some .boolean), [], none)
theorem hd_X7_isFromRight : mX7_isFromRight.2.1.cls ≠ "java/lang/invoke/MethodHandle" ∧ mX7_isFromRight.2.1.cls ≠ "java/lang/invoke/VarHandle" ∧ (parseMethodDescriptor mX7_isFromRight.2.1.desc).map (fun d => d.parameters.length) = some 1 := ⟨by decide +kernel, by decide +kernel, by decide +kernel⟩
abbrev mX8_init : zM := (RX8, yX8_init, cX8_init, 1, none, [], none)
theorem hd_X8_init : mX8_init.2.1.cls ≠ "java/lang/invoke/MethodHandle" ∧ mX8_init.2.1.cls ≠ "java/lang/invoke/VarHandle" ∧ (parseMethodDescriptor mX8_init.2.1.desc).map (fun d => d.parameters.length) = some 0 := ⟨by decide +kernel, by decide +kernel, by decide +kernel⟩
abbrev mX8_isFromRight : zM := (RX8, yX8_isFromRight, cX8_isFromRight, 2, (some .boolean), [], none)
theorem hd_X8_isFromRight : mX8_isFromRight.2.1.cls ≠ "java/lang/invoke/MethodHandle" ∧ mX8_isFromRight.2.1.cls ≠ "java/lang/invoke/VarHandle" ∧ (parseMethodDescriptor mX8_isFromRight.2.1.desc).map (fun d => d.parameters.length) = some 1 := ⟨by decide +kernel, by decide +kernel, by decide +kernel⟩
theorem hdn_X8_isFromRight : mX8_isFromRight.2.1.name ≠ "<init>" ∧ (parseMethodDescriptor mX8_isFromRight.2.1.desc).map (fun d => d.parameters.length) = some 1 := ⟨by decide +kernel, by decide +kernel⟩
abbrev mX9_init : zM := (RX9, yX9_init, cX9_init, 1, none, [], none)
theorem hd_X9_init : mX9_init.2.1.cls ≠ "java/lang/invoke/MethodHandle" ∧ mX9_init.2.1.cls ≠ "java/lang/invoke/VarHandle" ∧ (parseMethodDescriptor mX9_init.2.1.desc).map (fun d => d.parameters.length) = some 0 := ⟨by decide +kernel, by decide +kernel, by decide +kernel⟩
abbrev mX9_isFromRight : zM := (RX9, yX9_isFromRight, cX9_isFromRight, 2, (some .boolean), [], none)
theorem hd_X9_isFromRight : mX9_isFromRight.2.1.cls ≠ "java/lang/invoke/MethodHandle" ∧ mX9_isFromRight.2.1.cls ≠ "java/lang/invoke/VarHandle" ∧ (parseMethodDescriptor mX9_isFromRight.2.1.desc).map (fun d => d.parameters.length) = some 1 := ⟨by decide +kernel, by decide +kernel, by decide +kernel⟩
abbrev mL_law (x9 : Nat × (Nat → Int32)) : zM := ("TwoTonguesLaw", x, code, 7, ret, [], some x9)
