/-! DECODE ROWS BY BYTES: one lemma an opcode; a method's code is cut into short pieces once, and a row reads its own piece alone. -/
set_option maxRecDepth 100000
/-- the code has just these bytes from pc on -/
def DkAt (code : ByteArray) (pc : Nat) (bs : List UInt8) : Prop := ∀ (j : Nat) (b : UInt8), bs[j]? = some b → code.data.toList[pc + j]? = some b
/-- the piece W has the bytes bs from its place j on -/
def dkIn (W : List UInt8) (j : Nat) (bs : List UInt8) : Bool := decide ((W.drop j).take bs.length = bs)
theorem dk_seg {l W T : List UInt8} {o o2 : Nat} (h : l.drop o = W ++ T) (n : Nat) (hn : W.length = n) (ho : o + n = o2) : l.drop o2 = T := by
  subst ho
  rw [← List.drop_drop, h, List.drop_left' hn]
theorem dk_at {code : ByteArray} {W T bs : List UInt8} {o pc : Nat} (h : code.data.toList.drop o = W ++ T) (j : Nat) (hp : o + j = pc) (hw : dkIn W j bs = true) : DkAt code pc bs := by
  subst hp
  intro i b e
  have h1 := of_decide_eq_true hw
  have h2 : i < bs.length := (List.getElem?_eq_some_iff.mp e).1
  have h3 : W[j + i]? = some b := by
    rw [← h1, List.getElem?_take, if_pos h2, List.getElem?_drop] at e
    exact e
  have h4 : j + i < W.length := (List.getElem?_eq_some_iff.mp h3).1
  have h5 : (code.data.toList.drop o)[j + i]? = some b := by
    rw [h, List.getElem?_append_left h4]
    exact h3
  rw [List.getElem?_drop, ← Nat.add_assoc] at h5
  exact h5
theorem dk_u1 {A : ByteArray} {p : Nat} {b : UInt8} (h : A.data.toList[p]? = some b) : (Reader.u1 : Reader DecodeError Nat) A p = .ok (b.toNat, p + 1) := by
  obtain ⟨h1, h2⟩ := List.getElem?_eq_some_iff.mp h
  have h3 : p < A.size := by simpa using h1
  have h4 : A[p]'h3 = b := h2
  have e : (Reader.u1 : Reader DecodeError Nat) A p = (if h : p < A.size then .ok (A[p].toNat, p + 1) else .error (HasTruncated.truncated p)) := by
    show (do if h : p < A.size then do set (p + 1); Pure.pure A[p].toNat else MonadExcept.throw (HasTruncated.truncated p) : Reader DecodeError Nat) A p = _
    by_cases hi : p < A.size
    · rw [dif_pos hi, dif_pos hi]; rfl
    · rw [dif_neg hi, dif_neg hi]; rfl
  rw [e, dif_pos h3, h4]
theorem dk_bind {α β : Type} {r : Reader DecodeError α} {f : α → Reader DecodeError β} {A : ByteArray} {p s : Nat} {a : α} (h : r A p = .ok (a, s)) : (r >>= f) A p = f a A s := by
  show (do let (a, s) ← r A p; f a A s : Except DecodeError (β × Nat)) = _
  rw [h]
  rfl
theorem dk_map {α β : Type} {r : Reader DecodeError α} {g : α → β} {A : ByteArray} {p s : Nat} {a : α} (h : r A p = .ok (a, s)) : (g <$> r) A p = .ok (g a, s) := by
  show (do let (a, s) ← r A p; .ok (g a, s) : Except DecodeError (β × Nat)) = _
  rw [h]
  rfl
theorem dk_u2 {A : ByteArray} {p : Nat} {a b : UInt8} (h : A.data.toList[p]? = some a) (h2 : A.data.toList[p + 1]? = some b) : (Reader.u2 : Reader DecodeError Nat) A p = .ok (a.toNat * 256 + b.toNat, p + 2) := by
  show (Reader.u1 >>= fun hi => Reader.u1 >>= fun lo => Pure.pure (hi * 256 + lo) : Reader DecodeError Nat) A p = _
  rw [dk_bind (dk_u1 h), dk_bind (dk_u1 h2)]
  rfl
theorem dk_of {code : ByteArray} {pc n : Nat} {i : Instr} (h : Decoder.instr pc code pc = .ok (i, pc + n)) : decode code pc = .ok (i, n) := by
  have e : decode code pc = (match Decoder.instr pc code pc with | .error x => .error x | .ok (j, s) => .ok (j, s - pc)) := by
    show (do let (j, s) ← Decoder.instr pc code pc; Pure.pure (j, s - pc) : Except DecodeError (Instr × Nat)) = _
    cases Decoder.instr pc code pc <;> rfl
  rw [e, h]
  show Except.ok (i, pc + n - pc) = _
  rw [Nat.add_sub_cancel_left]
theorem dk_1 {code : ByteArray} {pc : Nat} (h : DkAt code pc [1]) : decode code pc = .ok (.aconst_null, 1) := dk_of ((dk_bind (dk_u1 (h 0 _ rfl))).trans rfl)
theorem dk_2 {code : ByteArray} {pc : Nat} (h : DkAt code pc [2]) : decode code pc = .ok (.iconst (-1), 1) := dk_of ((dk_bind (dk_u1 (h 0 _ rfl))).trans rfl)
theorem dk_3 {code : ByteArray} {pc : Nat} (h : DkAt code pc [3]) : decode code pc = .ok (.iconst 0, 1) := dk_of ((dk_bind (dk_u1 (h 0 _ rfl))).trans rfl)
theorem dk_4 {code : ByteArray} {pc : Nat} (h : DkAt code pc [4]) : decode code pc = .ok (.iconst 1, 1) := dk_of ((dk_bind (dk_u1 (h 0 _ rfl))).trans rfl)
theorem dk_5 {code : ByteArray} {pc : Nat} (h : DkAt code pc [5]) : decode code pc = .ok (.iconst 2, 1) := dk_of ((dk_bind (dk_u1 (h 0 _ rfl))).trans rfl)
theorem dk_6 {code : ByteArray} {pc : Nat} (h : DkAt code pc [6]) : decode code pc = .ok (.iconst 3, 1) := dk_of ((dk_bind (dk_u1 (h 0 _ rfl))).trans rfl)
theorem dk_7 {code : ByteArray} {pc : Nat} (h : DkAt code pc [7]) : decode code pc = .ok (.iconst 4, 1) := dk_of ((dk_bind (dk_u1 (h 0 _ rfl))).trans rfl)
theorem dk_8 {code : ByteArray} {pc : Nat} (h : DkAt code pc [8]) : decode code pc = .ok (.iconst 5, 1) := dk_of ((dk_bind (dk_u1 (h 0 _ rfl))).trans rfl)
theorem dk_9 {code : ByteArray} {pc : Nat} (h : DkAt code pc [9]) : decode code pc = .ok (.lconst 0, 1) := dk_of ((dk_bind (dk_u1 (h 0 _ rfl))).trans rfl)
theorem dk_10 {code : ByteArray} {pc : Nat} (h : DkAt code pc [10]) : decode code pc = .ok (.lconst 1, 1) := dk_of ((dk_bind (dk_u1 (h 0 _ rfl))).trans rfl)
theorem dk_16 {code : ByteArray} {pc : Nat} (a : UInt8) (h : DkAt code pc [16, a]) : decode code pc = .ok (.bipush (Reader.signed 8 a.toNat), 2) := dk_of ((dk_bind (dk_u1 (h 0 _ rfl))).trans ((dk_bind (dk_map (dk_u1 (h 1 _ rfl)))).trans rfl))
theorem dk_17 {code : ByteArray} {pc : Nat} (a b : UInt8) (h : DkAt code pc [17, a, b]) : decode code pc = .ok (.sipush (Reader.signed 16 (a.toNat * 256 + b.toNat)), 3) := dk_of ((dk_bind (dk_u1 (h 0 _ rfl))).trans ((dk_bind (dk_map (dk_u2 (h 1 _ rfl) (h 2 _ rfl)))).trans rfl))
theorem dk_18 {code : ByteArray} {pc : Nat} (a : UInt8) (h : DkAt code pc [18, a]) : decode code pc = .ok (.ldc a.toNat, 2) := dk_of ((dk_bind (dk_u1 (h 0 _ rfl))).trans ((dk_bind (dk_u1 (h 1 _ rfl))).trans rfl))
theorem dk_19 {code : ByteArray} {pc : Nat} (a b : UInt8) (h : DkAt code pc [19, a, b]) : decode code pc = .ok (.ldc_w (a.toNat * 256 + b.toNat), 3) := dk_of ((dk_bind (dk_u1 (h 0 _ rfl))).trans ((dk_bind (dk_u2 (h 1 _ rfl) (h 2 _ rfl))).trans rfl))
theorem dk_20 {code : ByteArray} {pc : Nat} (a b : UInt8) (h : DkAt code pc [20, a, b]) : decode code pc = .ok (.ldc2_w (a.toNat * 256 + b.toNat), 3) := dk_of ((dk_bind (dk_u1 (h 0 _ rfl))).trans ((dk_bind (dk_u2 (h 1 _ rfl) (h 2 _ rfl))).trans rfl))
theorem dk_21 {code : ByteArray} {pc : Nat} (a : UInt8) (h : DkAt code pc [21, a]) : decode code pc = .ok (.iload a.toNat, 2) := dk_of ((dk_bind (dk_u1 (h 0 _ rfl))).trans ((dk_bind (dk_u1 (h 1 _ rfl))).trans rfl))
theorem dk_22 {code : ByteArray} {pc : Nat} (a : UInt8) (h : DkAt code pc [22, a]) : decode code pc = .ok (.lload a.toNat, 2) := dk_of ((dk_bind (dk_u1 (h 0 _ rfl))).trans ((dk_bind (dk_u1 (h 1 _ rfl))).trans rfl))
theorem dk_25 {code : ByteArray} {pc : Nat} (a : UInt8) (h : DkAt code pc [25, a]) : decode code pc = .ok (.aload a.toNat, 2) := dk_of ((dk_bind (dk_u1 (h 0 _ rfl))).trans ((dk_bind (dk_u1 (h 1 _ rfl))).trans rfl))
theorem dk_26 {code : ByteArray} {pc : Nat} (h : DkAt code pc [26]) : decode code pc = .ok (.iload_n 0, 1) := dk_of ((dk_bind (dk_u1 (h 0 _ rfl))).trans rfl)
theorem dk_27 {code : ByteArray} {pc : Nat} (h : DkAt code pc [27]) : decode code pc = .ok (.iload_n 1, 1) := dk_of ((dk_bind (dk_u1 (h 0 _ rfl))).trans rfl)
theorem dk_28 {code : ByteArray} {pc : Nat} (h : DkAt code pc [28]) : decode code pc = .ok (.iload_n 2, 1) := dk_of ((dk_bind (dk_u1 (h 0 _ rfl))).trans rfl)
theorem dk_29 {code : ByteArray} {pc : Nat} (h : DkAt code pc [29]) : decode code pc = .ok (.iload_n 3, 1) := dk_of ((dk_bind (dk_u1 (h 0 _ rfl))).trans rfl)
theorem dk_30 {code : ByteArray} {pc : Nat} (h : DkAt code pc [30]) : decode code pc = .ok (.lload_n 0, 1) := dk_of ((dk_bind (dk_u1 (h 0 _ rfl))).trans rfl)
theorem dk_31 {code : ByteArray} {pc : Nat} (h : DkAt code pc [31]) : decode code pc = .ok (.lload_n 1, 1) := dk_of ((dk_bind (dk_u1 (h 0 _ rfl))).trans rfl)
theorem dk_32 {code : ByteArray} {pc : Nat} (h : DkAt code pc [32]) : decode code pc = .ok (.lload_n 2, 1) := dk_of ((dk_bind (dk_u1 (h 0 _ rfl))).trans rfl)
theorem dk_42 {code : ByteArray} {pc : Nat} (h : DkAt code pc [42]) : decode code pc = .ok (.aload_n 0, 1) := dk_of ((dk_bind (dk_u1 (h 0 _ rfl))).trans rfl)
theorem dk_43 {code : ByteArray} {pc : Nat} (h : DkAt code pc [43]) : decode code pc = .ok (.aload_n 1, 1) := dk_of ((dk_bind (dk_u1 (h 0 _ rfl))).trans rfl)
theorem dk_44 {code : ByteArray} {pc : Nat} (h : DkAt code pc [44]) : decode code pc = .ok (.aload_n 2, 1) := dk_of ((dk_bind (dk_u1 (h 0 _ rfl))).trans rfl)
theorem dk_45 {code : ByteArray} {pc : Nat} (h : DkAt code pc [45]) : decode code pc = .ok (.aload_n 3, 1) := dk_of ((dk_bind (dk_u1 (h 0 _ rfl))).trans rfl)
theorem dk_46 {code : ByteArray} {pc : Nat} (h : DkAt code pc [46]) : decode code pc = .ok (.iaload, 1) := dk_of ((dk_bind (dk_u1 (h 0 _ rfl))).trans rfl)
theorem dk_47 {code : ByteArray} {pc : Nat} (h : DkAt code pc [47]) : decode code pc = .ok (.laload, 1) := dk_of ((dk_bind (dk_u1 (h 0 _ rfl))).trans rfl)
theorem dk_50 {code : ByteArray} {pc : Nat} (h : DkAt code pc [50]) : decode code pc = .ok (.aaload, 1) := dk_of ((dk_bind (dk_u1 (h 0 _ rfl))).trans rfl)
theorem dk_51 {code : ByteArray} {pc : Nat} (h : DkAt code pc [51]) : decode code pc = .ok (.baload, 1) := dk_of ((dk_bind (dk_u1 (h 0 _ rfl))).trans rfl)
theorem dk_54 {code : ByteArray} {pc : Nat} (a : UInt8) (h : DkAt code pc [54, a]) : decode code pc = .ok (.istore a.toNat, 2) := dk_of ((dk_bind (dk_u1 (h 0 _ rfl))).trans ((dk_bind (dk_u1 (h 1 _ rfl))).trans rfl))
theorem dk_55 {code : ByteArray} {pc : Nat} (a : UInt8) (h : DkAt code pc [55, a]) : decode code pc = .ok (.lstore a.toNat, 2) := dk_of ((dk_bind (dk_u1 (h 0 _ rfl))).trans ((dk_bind (dk_u1 (h 1 _ rfl))).trans rfl))
theorem dk_58 {code : ByteArray} {pc : Nat} (a : UInt8) (h : DkAt code pc [58, a]) : decode code pc = .ok (.astore a.toNat, 2) := dk_of ((dk_bind (dk_u1 (h 0 _ rfl))).trans ((dk_bind (dk_u1 (h 1 _ rfl))).trans rfl))
theorem dk_59 {code : ByteArray} {pc : Nat} (h : DkAt code pc [59]) : decode code pc = .ok (.istore_n 0, 1) := dk_of ((dk_bind (dk_u1 (h 0 _ rfl))).trans rfl)
theorem dk_60 {code : ByteArray} {pc : Nat} (h : DkAt code pc [60]) : decode code pc = .ok (.istore_n 1, 1) := dk_of ((dk_bind (dk_u1 (h 0 _ rfl))).trans rfl)
theorem dk_61 {code : ByteArray} {pc : Nat} (h : DkAt code pc [61]) : decode code pc = .ok (.istore_n 2, 1) := dk_of ((dk_bind (dk_u1 (h 0 _ rfl))).trans rfl)
theorem dk_62 {code : ByteArray} {pc : Nat} (h : DkAt code pc [62]) : decode code pc = .ok (.istore_n 3, 1) := dk_of ((dk_bind (dk_u1 (h 0 _ rfl))).trans rfl)
theorem dk_63 {code : ByteArray} {pc : Nat} (h : DkAt code pc [63]) : decode code pc = .ok (.lstore_n 0, 1) := dk_of ((dk_bind (dk_u1 (h 0 _ rfl))).trans rfl)
theorem dk_65 {code : ByteArray} {pc : Nat} (h : DkAt code pc [65]) : decode code pc = .ok (.lstore_n 2, 1) := dk_of ((dk_bind (dk_u1 (h 0 _ rfl))).trans rfl)
theorem dk_76 {code : ByteArray} {pc : Nat} (h : DkAt code pc [76]) : decode code pc = .ok (.astore_n 1, 1) := dk_of ((dk_bind (dk_u1 (h 0 _ rfl))).trans rfl)
theorem dk_77 {code : ByteArray} {pc : Nat} (h : DkAt code pc [77]) : decode code pc = .ok (.astore_n 2, 1) := dk_of ((dk_bind (dk_u1 (h 0 _ rfl))).trans rfl)
theorem dk_78 {code : ByteArray} {pc : Nat} (h : DkAt code pc [78]) : decode code pc = .ok (.astore_n 3, 1) := dk_of ((dk_bind (dk_u1 (h 0 _ rfl))).trans rfl)
theorem dk_79 {code : ByteArray} {pc : Nat} (h : DkAt code pc [79]) : decode code pc = .ok (.iastore, 1) := dk_of ((dk_bind (dk_u1 (h 0 _ rfl))).trans rfl)
theorem dk_80 {code : ByteArray} {pc : Nat} (h : DkAt code pc [80]) : decode code pc = .ok (.lastore, 1) := dk_of ((dk_bind (dk_u1 (h 0 _ rfl))).trans rfl)
theorem dk_83 {code : ByteArray} {pc : Nat} (h : DkAt code pc [83]) : decode code pc = .ok (.aastore, 1) := dk_of ((dk_bind (dk_u1 (h 0 _ rfl))).trans rfl)
theorem dk_84 {code : ByteArray} {pc : Nat} (h : DkAt code pc [84]) : decode code pc = .ok (.bastore, 1) := dk_of ((dk_bind (dk_u1 (h 0 _ rfl))).trans rfl)
theorem dk_87 {code : ByteArray} {pc : Nat} (h : DkAt code pc [87]) : decode code pc = .ok (.pop, 1) := dk_of ((dk_bind (dk_u1 (h 0 _ rfl))).trans rfl)
theorem dk_89 {code : ByteArray} {pc : Nat} (h : DkAt code pc [89]) : decode code pc = .ok (.dup, 1) := dk_of ((dk_bind (dk_u1 (h 0 _ rfl))).trans rfl)
theorem dk_90 {code : ByteArray} {pc : Nat} (h : DkAt code pc [90]) : decode code pc = .ok (.dup_x1, 1) := dk_of ((dk_bind (dk_u1 (h 0 _ rfl))).trans rfl)
theorem dk_92 {code : ByteArray} {pc : Nat} (h : DkAt code pc [92]) : decode code pc = .ok (.dup2, 1) := dk_of ((dk_bind (dk_u1 (h 0 _ rfl))).trans rfl)
theorem dk_96 {code : ByteArray} {pc : Nat} (h : DkAt code pc [96]) : decode code pc = .ok (.iadd, 1) := dk_of ((dk_bind (dk_u1 (h 0 _ rfl))).trans rfl)
theorem dk_97 {code : ByteArray} {pc : Nat} (h : DkAt code pc [97]) : decode code pc = .ok (.ladd, 1) := dk_of ((dk_bind (dk_u1 (h 0 _ rfl))).trans rfl)
theorem dk_100 {code : ByteArray} {pc : Nat} (h : DkAt code pc [100]) : decode code pc = .ok (.isub, 1) := dk_of ((dk_bind (dk_u1 (h 0 _ rfl))).trans rfl)
theorem dk_101 {code : ByteArray} {pc : Nat} (h : DkAt code pc [101]) : decode code pc = .ok (.lsub, 1) := dk_of ((dk_bind (dk_u1 (h 0 _ rfl))).trans rfl)
theorem dk_104 {code : ByteArray} {pc : Nat} (h : DkAt code pc [104]) : decode code pc = .ok (.imul, 1) := dk_of ((dk_bind (dk_u1 (h 0 _ rfl))).trans rfl)
theorem dk_105 {code : ByteArray} {pc : Nat} (h : DkAt code pc [105]) : decode code pc = .ok (.lmul, 1) := dk_of ((dk_bind (dk_u1 (h 0 _ rfl))).trans rfl)
theorem dk_108 {code : ByteArray} {pc : Nat} (h : DkAt code pc [108]) : decode code pc = .ok (.idiv, 1) := dk_of ((dk_bind (dk_u1 (h 0 _ rfl))).trans rfl)
theorem dk_109 {code : ByteArray} {pc : Nat} (h : DkAt code pc [109]) : decode code pc = .ok (.ldiv, 1) := dk_of ((dk_bind (dk_u1 (h 0 _ rfl))).trans rfl)
theorem dk_112 {code : ByteArray} {pc : Nat} (h : DkAt code pc [112]) : decode code pc = .ok (.irem, 1) := dk_of ((dk_bind (dk_u1 (h 0 _ rfl))).trans rfl)
theorem dk_113 {code : ByteArray} {pc : Nat} (h : DkAt code pc [113]) : decode code pc = .ok (.lrem, 1) := dk_of ((dk_bind (dk_u1 (h 0 _ rfl))).trans rfl)
theorem dk_116 {code : ByteArray} {pc : Nat} (h : DkAt code pc [116]) : decode code pc = .ok (.ineg, 1) := dk_of ((dk_bind (dk_u1 (h 0 _ rfl))).trans rfl)
theorem dk_117 {code : ByteArray} {pc : Nat} (h : DkAt code pc [117]) : decode code pc = .ok (.lneg, 1) := dk_of ((dk_bind (dk_u1 (h 0 _ rfl))).trans rfl)
theorem dk_120 {code : ByteArray} {pc : Nat} (h : DkAt code pc [120]) : decode code pc = .ok (.ishl, 1) := dk_of ((dk_bind (dk_u1 (h 0 _ rfl))).trans rfl)
theorem dk_121 {code : ByteArray} {pc : Nat} (h : DkAt code pc [121]) : decode code pc = .ok (.lshl, 1) := dk_of ((dk_bind (dk_u1 (h 0 _ rfl))).trans rfl)
theorem dk_122 {code : ByteArray} {pc : Nat} (h : DkAt code pc [122]) : decode code pc = .ok (.ishr, 1) := dk_of ((dk_bind (dk_u1 (h 0 _ rfl))).trans rfl)
theorem dk_123 {code : ByteArray} {pc : Nat} (h : DkAt code pc [123]) : decode code pc = .ok (.lshr, 1) := dk_of ((dk_bind (dk_u1 (h 0 _ rfl))).trans rfl)
theorem dk_124 {code : ByteArray} {pc : Nat} (h : DkAt code pc [124]) : decode code pc = .ok (.iushr, 1) := dk_of ((dk_bind (dk_u1 (h 0 _ rfl))).trans rfl)
theorem dk_125 {code : ByteArray} {pc : Nat} (h : DkAt code pc [125]) : decode code pc = .ok (.lushr, 1) := dk_of ((dk_bind (dk_u1 (h 0 _ rfl))).trans rfl)
theorem dk_126 {code : ByteArray} {pc : Nat} (h : DkAt code pc [126]) : decode code pc = .ok (.iand, 1) := dk_of ((dk_bind (dk_u1 (h 0 _ rfl))).trans rfl)
theorem dk_127 {code : ByteArray} {pc : Nat} (h : DkAt code pc [127]) : decode code pc = .ok (.land, 1) := dk_of ((dk_bind (dk_u1 (h 0 _ rfl))).trans rfl)
theorem dk_128 {code : ByteArray} {pc : Nat} (h : DkAt code pc [128]) : decode code pc = .ok (.ior, 1) := dk_of ((dk_bind (dk_u1 (h 0 _ rfl))).trans rfl)
theorem dk_129 {code : ByteArray} {pc : Nat} (h : DkAt code pc [129]) : decode code pc = .ok (.lor, 1) := dk_of ((dk_bind (dk_u1 (h 0 _ rfl))).trans rfl)
theorem dk_130 {code : ByteArray} {pc : Nat} (h : DkAt code pc [130]) : decode code pc = .ok (.ixor, 1) := dk_of ((dk_bind (dk_u1 (h 0 _ rfl))).trans rfl)
theorem dk_131 {code : ByteArray} {pc : Nat} (h : DkAt code pc [131]) : decode code pc = .ok (.lxor, 1) := dk_of ((dk_bind (dk_u1 (h 0 _ rfl))).trans rfl)
theorem dk_132 {code : ByteArray} {pc : Nat} (a b : UInt8) (h : DkAt code pc [132, a, b]) : decode code pc = .ok (.iinc a.toNat (Reader.signed 8 b.toNat), 3) := dk_of ((dk_bind (dk_u1 (h 0 _ rfl))).trans ((dk_bind (dk_u1 (h 1 _ rfl))).trans ((dk_bind (dk_map (dk_u1 (h 2 _ rfl)))).trans rfl)))
theorem dk_133 {code : ByteArray} {pc : Nat} (h : DkAt code pc [133]) : decode code pc = .ok (.i2l, 1) := dk_of ((dk_bind (dk_u1 (h 0 _ rfl))).trans rfl)
theorem dk_136 {code : ByteArray} {pc : Nat} (h : DkAt code pc [136]) : decode code pc = .ok (.l2i, 1) := dk_of ((dk_bind (dk_u1 (h 0 _ rfl))).trans rfl)
theorem dk_145 {code : ByteArray} {pc : Nat} (h : DkAt code pc [145]) : decode code pc = .ok (.i2b, 1) := dk_of ((dk_bind (dk_u1 (h 0 _ rfl))).trans rfl)
theorem dk_146 {code : ByteArray} {pc : Nat} (h : DkAt code pc [146]) : decode code pc = .ok (.i2c, 1) := dk_of ((dk_bind (dk_u1 (h 0 _ rfl))).trans rfl)
theorem dk_148 {code : ByteArray} {pc : Nat} (h : DkAt code pc [148]) : decode code pc = .ok (.lcmp, 1) := dk_of ((dk_bind (dk_u1 (h 0 _ rfl))).trans rfl)
theorem dk_153 {code : ByteArray} {pc : Nat} (a b : UInt8) (h : DkAt code pc [153, a, b]) : decode code pc = .ok (.ifCond .eq (Reader.signed 16 (a.toNat * 256 + b.toNat)), 3) := dk_of ((dk_bind (dk_u1 (h 0 _ rfl))).trans ((dk_bind (dk_map (dk_u2 (h 1 _ rfl) (h 2 _ rfl)))).trans rfl))
theorem dk_154 {code : ByteArray} {pc : Nat} (a b : UInt8) (h : DkAt code pc [154, a, b]) : decode code pc = .ok (.ifCond .ne (Reader.signed 16 (a.toNat * 256 + b.toNat)), 3) := dk_of ((dk_bind (dk_u1 (h 0 _ rfl))).trans ((dk_bind (dk_map (dk_u2 (h 1 _ rfl) (h 2 _ rfl)))).trans rfl))
theorem dk_155 {code : ByteArray} {pc : Nat} (a b : UInt8) (h : DkAt code pc [155, a, b]) : decode code pc = .ok (.ifCond .lt (Reader.signed 16 (a.toNat * 256 + b.toNat)), 3) := dk_of ((dk_bind (dk_u1 (h 0 _ rfl))).trans ((dk_bind (dk_map (dk_u2 (h 1 _ rfl) (h 2 _ rfl)))).trans rfl))
theorem dk_156 {code : ByteArray} {pc : Nat} (a b : UInt8) (h : DkAt code pc [156, a, b]) : decode code pc = .ok (.ifCond .ge (Reader.signed 16 (a.toNat * 256 + b.toNat)), 3) := dk_of ((dk_bind (dk_u1 (h 0 _ rfl))).trans ((dk_bind (dk_map (dk_u2 (h 1 _ rfl) (h 2 _ rfl)))).trans rfl))
theorem dk_157 {code : ByteArray} {pc : Nat} (a b : UInt8) (h : DkAt code pc [157, a, b]) : decode code pc = .ok (.ifCond .gt (Reader.signed 16 (a.toNat * 256 + b.toNat)), 3) := dk_of ((dk_bind (dk_u1 (h 0 _ rfl))).trans ((dk_bind (dk_map (dk_u2 (h 1 _ rfl) (h 2 _ rfl)))).trans rfl))
theorem dk_158 {code : ByteArray} {pc : Nat} (a b : UInt8) (h : DkAt code pc [158, a, b]) : decode code pc = .ok (.ifCond .le (Reader.signed 16 (a.toNat * 256 + b.toNat)), 3) := dk_of ((dk_bind (dk_u1 (h 0 _ rfl))).trans ((dk_bind (dk_map (dk_u2 (h 1 _ rfl) (h 2 _ rfl)))).trans rfl))
theorem dk_159 {code : ByteArray} {pc : Nat} (a b : UInt8) (h : DkAt code pc [159, a, b]) : decode code pc = .ok (.if_icmp .eq (Reader.signed 16 (a.toNat * 256 + b.toNat)), 3) := dk_of ((dk_bind (dk_u1 (h 0 _ rfl))).trans ((dk_bind (dk_map (dk_u2 (h 1 _ rfl) (h 2 _ rfl)))).trans rfl))
theorem dk_160 {code : ByteArray} {pc : Nat} (a b : UInt8) (h : DkAt code pc [160, a, b]) : decode code pc = .ok (.if_icmp .ne (Reader.signed 16 (a.toNat * 256 + b.toNat)), 3) := dk_of ((dk_bind (dk_u1 (h 0 _ rfl))).trans ((dk_bind (dk_map (dk_u2 (h 1 _ rfl) (h 2 _ rfl)))).trans rfl))
theorem dk_161 {code : ByteArray} {pc : Nat} (a b : UInt8) (h : DkAt code pc [161, a, b]) : decode code pc = .ok (.if_icmp .lt (Reader.signed 16 (a.toNat * 256 + b.toNat)), 3) := dk_of ((dk_bind (dk_u1 (h 0 _ rfl))).trans ((dk_bind (dk_map (dk_u2 (h 1 _ rfl) (h 2 _ rfl)))).trans rfl))
theorem dk_162 {code : ByteArray} {pc : Nat} (a b : UInt8) (h : DkAt code pc [162, a, b]) : decode code pc = .ok (.if_icmp .ge (Reader.signed 16 (a.toNat * 256 + b.toNat)), 3) := dk_of ((dk_bind (dk_u1 (h 0 _ rfl))).trans ((dk_bind (dk_map (dk_u2 (h 1 _ rfl) (h 2 _ rfl)))).trans rfl))
theorem dk_163 {code : ByteArray} {pc : Nat} (a b : UInt8) (h : DkAt code pc [163, a, b]) : decode code pc = .ok (.if_icmp .gt (Reader.signed 16 (a.toNat * 256 + b.toNat)), 3) := dk_of ((dk_bind (dk_u1 (h 0 _ rfl))).trans ((dk_bind (dk_map (dk_u2 (h 1 _ rfl) (h 2 _ rfl)))).trans rfl))
theorem dk_164 {code : ByteArray} {pc : Nat} (a b : UInt8) (h : DkAt code pc [164, a, b]) : decode code pc = .ok (.if_icmp .le (Reader.signed 16 (a.toNat * 256 + b.toNat)), 3) := dk_of ((dk_bind (dk_u1 (h 0 _ rfl))).trans ((dk_bind (dk_map (dk_u2 (h 1 _ rfl) (h 2 _ rfl)))).trans rfl))
theorem dk_165 {code : ByteArray} {pc : Nat} (a b : UInt8) (h : DkAt code pc [165, a, b]) : decode code pc = .ok (.if_acmp .eq (Reader.signed 16 (a.toNat * 256 + b.toNat)), 3) := dk_of ((dk_bind (dk_u1 (h 0 _ rfl))).trans ((dk_bind (dk_map (dk_u2 (h 1 _ rfl) (h 2 _ rfl)))).trans rfl))
theorem dk_166 {code : ByteArray} {pc : Nat} (a b : UInt8) (h : DkAt code pc [166, a, b]) : decode code pc = .ok (.if_acmp .ne (Reader.signed 16 (a.toNat * 256 + b.toNat)), 3) := dk_of ((dk_bind (dk_u1 (h 0 _ rfl))).trans ((dk_bind (dk_map (dk_u2 (h 1 _ rfl) (h 2 _ rfl)))).trans rfl))
theorem dk_167 {code : ByteArray} {pc : Nat} (a b : UInt8) (h : DkAt code pc [167, a, b]) : decode code pc = .ok (.goto (Reader.signed 16 (a.toNat * 256 + b.toNat)), 3) := dk_of ((dk_bind (dk_u1 (h 0 _ rfl))).trans ((dk_bind (dk_map (dk_u2 (h 1 _ rfl) (h 2 _ rfl)))).trans rfl))
theorem dk_172 {code : ByteArray} {pc : Nat} (h : DkAt code pc [172]) : decode code pc = .ok (.ireturn, 1) := dk_of ((dk_bind (dk_u1 (h 0 _ rfl))).trans rfl)
theorem dk_173 {code : ByteArray} {pc : Nat} (h : DkAt code pc [173]) : decode code pc = .ok (.lreturn, 1) := dk_of ((dk_bind (dk_u1 (h 0 _ rfl))).trans rfl)
theorem dk_176 {code : ByteArray} {pc : Nat} (h : DkAt code pc [176]) : decode code pc = .ok (.areturn, 1) := dk_of ((dk_bind (dk_u1 (h 0 _ rfl))).trans rfl)
theorem dk_177 {code : ByteArray} {pc : Nat} (h : DkAt code pc [177]) : decode code pc = .ok (.return_, 1) := dk_of ((dk_bind (dk_u1 (h 0 _ rfl))).trans rfl)
theorem dk_178 {code : ByteArray} {pc : Nat} (a b : UInt8) (h : DkAt code pc [178, a, b]) : decode code pc = .ok (.getstatic (a.toNat * 256 + b.toNat), 3) := dk_of ((dk_bind (dk_u1 (h 0 _ rfl))).trans ((dk_bind (dk_u2 (h 1 _ rfl) (h 2 _ rfl))).trans rfl))
theorem dk_180 {code : ByteArray} {pc : Nat} (a b : UInt8) (h : DkAt code pc [180, a, b]) : decode code pc = .ok (.getfield (a.toNat * 256 + b.toNat), 3) := dk_of ((dk_bind (dk_u1 (h 0 _ rfl))).trans ((dk_bind (dk_u2 (h 1 _ rfl) (h 2 _ rfl))).trans rfl))
theorem dk_181 {code : ByteArray} {pc : Nat} (a b : UInt8) (h : DkAt code pc [181, a, b]) : decode code pc = .ok (.putfield (a.toNat * 256 + b.toNat), 3) := dk_of ((dk_bind (dk_u1 (h 0 _ rfl))).trans ((dk_bind (dk_u2 (h 1 _ rfl) (h 2 _ rfl))).trans rfl))
theorem dk_182 {code : ByteArray} {pc : Nat} (a b : UInt8) (h : DkAt code pc [182, a, b]) : decode code pc = .ok (.invokevirtual (a.toNat * 256 + b.toNat), 3) := dk_of ((dk_bind (dk_u1 (h 0 _ rfl))).trans ((dk_bind (dk_u2 (h 1 _ rfl) (h 2 _ rfl))).trans rfl))
theorem dk_183 {code : ByteArray} {pc : Nat} (a b : UInt8) (h : DkAt code pc [183, a, b]) : decode code pc = .ok (.invokespecial (a.toNat * 256 + b.toNat), 3) := dk_of ((dk_bind (dk_u1 (h 0 _ rfl))).trans ((dk_bind (dk_u2 (h 1 _ rfl) (h 2 _ rfl))).trans rfl))
theorem dk_184 {code : ByteArray} {pc : Nat} (a b : UInt8) (h : DkAt code pc [184, a, b]) : decode code pc = .ok (.invokestatic (a.toNat * 256 + b.toNat), 3) := dk_of ((dk_bind (dk_u1 (h 0 _ rfl))).trans ((dk_bind (dk_u2 (h 1 _ rfl) (h 2 _ rfl))).trans rfl))
theorem dk_187 {code : ByteArray} {pc : Nat} (a b : UInt8) (h : DkAt code pc [187, a, b]) : decode code pc = .ok (.new (a.toNat * 256 + b.toNat), 3) := dk_of ((dk_bind (dk_u1 (h 0 _ rfl))).trans ((dk_bind (dk_u2 (h 1 _ rfl) (h 2 _ rfl))).trans rfl))
theorem dk_188_4 {code : ByteArray} {pc : Nat} (h : DkAt code pc [188, 4]) : decode code pc = .ok (.newarray .boolean, 2) := dk_of ((dk_bind (dk_u1 (h 0 _ rfl))).trans ((dk_bind (dk_u1 (h 1 _ rfl))).trans rfl))
theorem dk_188_8 {code : ByteArray} {pc : Nat} (h : DkAt code pc [188, 8]) : decode code pc = .ok (.newarray .byte, 2) := dk_of ((dk_bind (dk_u1 (h 0 _ rfl))).trans ((dk_bind (dk_u1 (h 1 _ rfl))).trans rfl))
theorem dk_188_10 {code : ByteArray} {pc : Nat} (h : DkAt code pc [188, 10]) : decode code pc = .ok (.newarray .int, 2) := dk_of ((dk_bind (dk_u1 (h 0 _ rfl))).trans ((dk_bind (dk_u1 (h 1 _ rfl))).trans rfl))
theorem dk_188_11 {code : ByteArray} {pc : Nat} (h : DkAt code pc [188, 11]) : decode code pc = .ok (.newarray .long, 2) := dk_of ((dk_bind (dk_u1 (h 0 _ rfl))).trans ((dk_bind (dk_u1 (h 1 _ rfl))).trans rfl))
theorem dk_189 {code : ByteArray} {pc : Nat} (a b : UInt8) (h : DkAt code pc [189, a, b]) : decode code pc = .ok (.anewarray (a.toNat * 256 + b.toNat), 3) := dk_of ((dk_bind (dk_u1 (h 0 _ rfl))).trans ((dk_bind (dk_u2 (h 1 _ rfl) (h 2 _ rfl))).trans rfl))
theorem dk_190 {code : ByteArray} {pc : Nat} (h : DkAt code pc [190]) : decode code pc = .ok (.arraylength, 1) := dk_of ((dk_bind (dk_u1 (h 0 _ rfl))).trans rfl)
theorem dk_191 {code : ByteArray} {pc : Nat} (h : DkAt code pc [191]) : decode code pc = .ok (.athrow, 1) := dk_of ((dk_bind (dk_u1 (h 0 _ rfl))).trans rfl)
theorem dk_192 {code : ByteArray} {pc : Nat} (a b : UInt8) (h : DkAt code pc [192, a, b]) : decode code pc = .ok (.checkcast (a.toNat * 256 + b.toNat), 3) := dk_of ((dk_bind (dk_u1 (h 0 _ rfl))).trans ((dk_bind (dk_u2 (h 1 _ rfl) (h 2 _ rfl))).trans rfl))
theorem dk_198 {code : ByteArray} {pc : Nat} (a b : UInt8) (h : DkAt code pc [198, a, b]) : decode code pc = .ok (.ifnull (Reader.signed 16 (a.toNat * 256 + b.toNat)), 3) := dk_of ((dk_bind (dk_u1 (h 0 _ rfl))).trans ((dk_bind (dk_map (dk_u2 (h 1 _ rfl) (h 2 _ rfl)))).trans rfl))
theorem dk_199 {code : ByteArray} {pc : Nat} (a b : UInt8) (h : DkAt code pc [199, a, b]) : decode code pc = .ok (.ifnonnull (Reader.signed 16 (a.toNat * 256 + b.toNat)), 3) := dk_of ((dk_bind (dk_u1 (h 0 _ rfl))).trans ((dk_bind (dk_map (dk_u2 (h 1 _ rfl) (h 2 _ rfl)))).trans rfl))
abbrev cX0_look : ByteArray := method_3_code
def dkwX0_look_0 : List UInt8 := [45, 3, 42, 27, 28, 182, 0, 7, 133, 80, 167, 0, 11, 58, 4, 4, 172, 58, 4, 5, 172, 3, 172]
abbrev dktX0_look_0 : List UInt8 := dkwX0_look_0 ++ []
theorem dksX0_look_0 : cX0_look.data.toList.drop 0 = dktX0_look_0 := by decide +kernel
abbrev cX0_law : ByteArray := code
abbrev cL_law : ByteArray := code
def dkwL_law_48 : List UInt8 := [21, 4, 4, 96, 46, 182, 0, 159, 159, 0, 5, 3, 172, 132, 4, 6, 167, 251, 44, 4, 172]
abbrev dktL_law_48 : List UInt8 := dkwL_law_48 ++ []
def dkwL_law_47 : List UInt8 := [182, 0, 152, 44, 182, 0, 155, 159, 0, 30, 3, 172, 43, 42, 21, 4, 4, 96, 46, 182, 0, 156, 44, 42]
abbrev dktL_law_47 : List UInt8 := dkwL_law_47 ++ dktL_law_48
def dkwL_law_46 : List UInt8 := [46, 182, 0, 147, 159, 0, 56, 3, 172, 43, 182, 0, 148, 44, 182, 0, 151, 159, 0, 43, 3, 172, 43]
abbrev dktL_law_46 : List UInt8 := dkwL_law_46 ++ dktL_law_47
def dkwL_law_45 : List UInt8 := [44, 42, 21, 4, 4, 96, 46, 42, 21, 4, 5, 96, 46, 42, 21, 4, 6, 96, 46, 42, 21, 4, 7, 96]
abbrev dktL_law_45 : List UInt8 := dkwL_law_45 ++ dktL_law_46
def dkwL_law_44 : List UInt8 := [4, 96, 46, 42, 21, 4, 5, 96, 46, 42, 21, 4, 6, 96, 46, 42, 21, 4, 7, 96, 46, 182, 0, 143]
abbrev dktL_law_44 : List UInt8 := dkwL_law_44 ++ dktL_law_45
def dkwL_law_43 : List UInt8 := [96, 46, 182, 0, 139, 44, 42, 21, 4, 4, 96, 46, 182, 0, 142, 159, 0, 117, 3, 172, 43, 42, 21, 4]
abbrev dktL_law_43 : List UInt8 := dkwL_law_43 ++ dktL_law_44
def dkwL_law_42 : List UInt8 := [21, 4, 4, 96, 46, 42, 21, 4, 5, 96, 46, 182, 0, 138, 159, 0, 142, 3, 172, 43, 42, 21, 4, 4]
abbrev dktL_law_42 : List UInt8 := dkwL_law_42 ++ dktL_law_43
def dkwL_law_41 : List UInt8 := [159, 0, 179, 3, 172, 43, 42, 21, 4, 4, 96, 46, 42, 21, 4, 5, 96, 46, 182, 0, 135, 44, 42]
abbrev dktL_law_41 : List UInt8 := dkwL_law_41 ++ dktL_law_42
def dkwL_law_40 : List UInt8 := [5, 96, 46, 182, 0, 131, 44, 42, 21, 4, 4, 96, 46, 42, 21, 4, 5, 96, 46, 182, 0, 134]
abbrev dktL_law_40 : List UInt8 := dkwL_law_40 ++ dktL_law_41
def dkwL_law_39 : List UInt8 := [42, 21, 4, 4, 96, 46, 182, 0, 130, 159, 0, 216, 3, 172, 43, 42, 21, 4, 4, 96, 46, 42, 21, 4]
abbrev dktL_law_39 : List UInt8 := dkwL_law_39 ++ dktL_law_40
def dkwL_law_38 : List UInt8 := [21, 4, 5, 96, 46, 182, 0, 126, 159, 0, 241, 3, 172, 43, 42, 21, 4, 4, 96, 46, 182, 0, 127, 44]
abbrev dktL_law_38 : List UInt8 := dkwL_law_38 ++ dktL_law_39
def dkwL_law_37 : List UInt8 := [42, 21, 4, 4, 96, 46, 42, 21, 4, 5, 96, 46, 182, 0, 123, 44, 42, 21, 4, 4, 96, 46, 42]
abbrev dktL_law_37 : List UInt8 := dkwL_law_37 ++ dktL_law_38
def dkwL_law_36 : List UInt8 := [21, 4, 4, 96, 46, 182, 0, 119, 44, 42, 21, 4, 4, 96, 46, 182, 0, 122, 159, 1, 22, 3, 172, 43]
abbrev dktL_law_36 : List UInt8 := dkwL_law_36 ++ dktL_law_37
def dkwL_law_35 : List UInt8 := [44, 42, 21, 4, 4, 96, 46, 42, 21, 4, 5, 96, 46, 182, 0, 118, 159, 1, 47, 3, 172, 43, 42]
abbrev dktL_law_35 : List UInt8 := dkwL_law_35 ++ dktL_law_36
def dkwL_law_34 : List UInt8 := [182, 0, 114, 159, 1, 84, 3, 172, 43, 42, 21, 4, 4, 96, 46, 42, 21, 4, 5, 96, 46, 182, 0, 115]
abbrev dktL_law_34 : List UInt8 := dkwL_law_34 ++ dktL_law_35
def dkwL_law_33 : List UInt8 := [182, 0, 107, 44, 42, 21, 4, 4, 96, 46, 182, 0, 110, 159, 1, 97, 3, 172, 43, 182, 0, 111, 44]
abbrev dktL_law_33 : List UInt8 := dkwL_law_33 ++ dktL_law_34
def dkwL_law_32 : List UInt8 := [42, 21, 4, 4, 96, 46, 182, 0, 106, 148, 153, 1, 122, 3, 172, 43, 42, 21, 4, 4, 96, 46]
abbrev dktL_law_32 : List UInt8 := dkwL_law_32 ++ dktL_law_33
def dkwL_law_31 : List UInt8 := [21, 4, 6, 96, 46, 182, 0, 102, 159, 1, 148, 3, 172, 43, 42, 21, 4, 4, 96, 46, 182, 0, 103, 44]
abbrev dktL_law_31 : List UInt8 := dkwL_law_31 ++ dktL_law_32
def dkwL_law_30 : List UInt8 := [42, 21, 4, 6, 96, 46, 182, 0, 98, 44, 42, 21, 4, 4, 96, 46, 42, 21, 4, 5, 96, 46, 42]
abbrev dktL_law_30 : List UInt8 := dkwL_law_30 ++ dktL_law_31
def dkwL_law_29 : List UInt8 := [7, 96, 46, 182, 0, 97, 159, 1, 197, 3, 172, 43, 42, 21, 4, 4, 96, 46, 42, 21, 4, 5, 96, 46]
abbrev dktL_law_29 : List UInt8 := dkwL_law_29 ++ dktL_law_30
def dkwL_law_28 : List UInt8 := [21, 4, 5, 96, 46, 133, 16, 32, 121, 42, 21, 4, 6, 96, 46, 133, 20, 0, 58, 127, 129, 42, 21, 4]
abbrev dktL_law_28 : List UInt8 := dkwL_law_28 ++ dktL_law_29
def dkwL_law_27 : List UInt8 := [46, 133, 20, 0, 58, 127, 129, 42, 21, 4, 7, 96, 46, 182, 0, 94, 44, 42, 21, 4, 4, 96, 46, 42]
abbrev dktL_law_27 : List UInt8 := dkwL_law_27 ++ dktL_law_28
def dkwL_law_26 : List UInt8 := [3, 172, 43, 42, 21, 4, 4, 96, 46, 42, 21, 4, 5, 96, 46, 133, 16, 32, 121, 42, 21, 4, 6, 96]
abbrev dktL_law_26 : List UInt8 := dkwL_law_26 ++ dktL_law_27
def dkwL_law_25 : List UInt8 := [21, 4, 5, 96, 46, 182, 0, 89, 159, 2, 35, 3, 172, 43, 182, 0, 90, 44, 182, 0, 93, 159, 2, 22]
abbrev dktL_law_25 : List UInt8 := dkwL_law_25 ++ dktL_law_26
def dkwL_law_24 : List UInt8 := [43, 42, 21, 4, 4, 96, 46, 42, 21, 4, 5, 96, 46, 182, 0, 86, 44, 42, 21, 4, 4, 96, 46, 42]
abbrev dktL_law_24 : List UInt8 := dkwL_law_24 ++ dktL_law_25
def dkwL_law_23 : List UInt8 := [4, 96, 46, 182, 0, 81, 159, 2, 85, 3, 172, 43, 182, 0, 82, 44, 182, 0, 85, 159, 2, 72, 3, 172]
abbrev dktL_law_23 : List UInt8 := dkwL_law_23 ++ dktL_law_24
def dkwL_law_22 : List UInt8 := [96, 46, 182, 0, 77, 159, 2, 110, 3, 172, 43, 42, 21, 4, 4, 96, 46, 182, 0, 78, 44, 42, 21, 4]
abbrev dktL_law_22 : List UInt8 := dkwL_law_22 ++ dktL_law_23
def dkwL_law_21 : List UInt8 := [46, 182, 0, 73, 159, 2, 135, 3, 172, 43, 42, 21, 4, 4, 96, 46, 182, 0, 74, 44, 42, 21, 4, 4]
abbrev dktL_law_21 : List UInt8 := dkwL_law_21 ++ dktL_law_22
def dkwL_law_20 : List UInt8 := [4, 96, 46, 42, 21, 4, 5, 96, 46, 182, 0, 70, 44, 42, 21, 4, 4, 96, 46, 42, 21, 4, 5, 96]
abbrev dktL_law_20 : List UInt8 := dkwL_law_20 ++ dktL_law_21
def dkwL_law_19 : List UInt8 := [96, 46, 182, 0, 65, 44, 42, 21, 4, 4, 96, 46, 182, 0, 69, 159, 2, 172, 3, 172, 43, 42, 21, 4]
abbrev dktL_law_19 : List UInt8 := dkwL_law_19 ++ dktL_law_20
def dkwL_law_18 : List UInt8 := [20, 0, 58, 127, 129, 42, 21, 4, 7, 96, 46, 182, 0, 64, 159, 2, 197, 3, 172, 43, 42, 21, 4, 4]
abbrev dktL_law_18 : List UInt8 := dkwL_law_18 ++ dktL_law_19
def dkwL_law_17 : List UInt8 := [44, 42, 21, 4, 4, 96, 46, 42, 21, 4, 5, 96, 46, 133, 16, 32, 121, 42, 21, 4, 6, 96, 46, 133]
abbrev dktL_law_17 : List UInt8 := dkwL_law_17 ++ dktL_law_18
def dkwL_law_16 : List UInt8 := [16, 32, 121, 42, 21, 4, 6, 96, 46, 133, 20, 0, 58, 127, 129, 42, 21, 4, 7, 96, 46, 182, 0, 60]
abbrev dktL_law_16 : List UInt8 := dkwL_law_16 ++ dktL_law_17
def dkwL_law_15 : List UInt8 := [182, 0, 57, 148, 153, 3, 22, 3, 172, 43, 42, 21, 4, 4, 96, 46, 42, 21, 4, 5, 96, 46, 133]
abbrev dktL_law_15 : List UInt8 := dkwL_law_15 ++ dktL_law_16
def dkwL_law_14 : List UInt8 := [159, 3, 48, 3, 172, 43, 42, 21, 4, 4, 96, 46, 182, 0, 53, 44, 42, 21, 4, 4, 96, 46]
abbrev dktL_law_14 : List UInt8 := dkwL_law_14 ++ dktL_law_15
def dkwL_law_13 : List UInt8 := [21, 4, 5, 96, 46, 182, 0, 49, 44, 42, 21, 4, 4, 96, 46, 42, 21, 4, 5, 96, 46, 182, 0, 52]
abbrev dktL_law_13 : List UInt8 := dkwL_law_13 ++ dktL_law_14
def dkwL_law_12 : List UInt8 := [45, 3, 47, 21, 6, 133, 148, 153, 0, 5, 3, 172, 167, 3, 83, 43, 42, 21, 4, 4, 96, 46, 42]
abbrev dktL_law_12 : List UInt8 := dkwL_law_12 ++ dktL_law_13
def dkwL_law_11 : List UInt8 := [5, 96, 46, 182, 0, 44, 54, 6, 44, 182, 0, 45, 21, 5, 159, 0, 5, 3, 172, 21, 5, 154, 0, 15]
abbrev dktL_law_11 : List UInt8 := dkwL_law_11 ++ dktL_law_12
def dkwL_law_10 : List UInt8 := [96, 46, 42, 21, 4, 5, 96, 46, 45, 184, 0, 39, 54, 5, 44, 42, 21, 4, 4, 96, 46, 42, 21, 4]
abbrev dktL_law_10 : List UInt8 := dkwL_law_10 ++ dktL_law_11
def dkwL_law_9 : List UInt8 := [21, 4, 4, 96, 46, 42, 21, 4, 5, 96, 46, 182, 0, 38, 159, 3, 153, 3, 172, 43, 42, 21, 4, 4]
abbrev dktL_law_9 : List UInt8 := dkwL_law_9 ++ dktL_law_10
def dkwL_law_8 : List UInt8 := [159, 3, 190, 3, 172, 43, 42, 21, 4, 4, 96, 46, 42, 21, 4, 5, 96, 46, 182, 0, 35, 44, 42]
abbrev dktL_law_8 : List UInt8 := dkwL_law_8 ++ dktL_law_9
def dkwL_law_7 : List UInt8 := [3, 172, 43, 42, 21, 4, 4, 96, 46, 182, 0, 31, 44, 42, 21, 4, 4, 96, 46, 182, 0, 34]
abbrev dktL_law_7 : List UInt8 := dkwL_law_7 ++ dktL_law_8
def dkwL_law_6 : List UInt8 := [172, 43, 42, 21, 4, 4, 96, 46, 182, 0, 26, 44, 42, 21, 4, 4, 96, 46, 182, 0, 30, 159, 3, 215]
abbrev dktL_law_6 : List UInt8 := dkwL_law_6 ++ dktL_law_7
def dkwL_law_5 : List UInt8 := [21, 4, 6, 96, 46, 42, 21, 4, 7, 96, 46, 42, 21, 4, 8, 96, 46, 182, 0, 25, 159, 3, 240, 3]
abbrev dktL_law_5 : List UInt8 := dkwL_law_5 ++ dktL_law_6
def dkwL_law_4 : List UInt8 := [46, 42, 21, 4, 8, 96, 46, 182, 0, 21, 44, 42, 21, 4, 4, 96, 46, 42, 21, 4, 5, 96, 46, 42]
abbrev dktL_law_4 : List UInt8 := dkwL_law_4 ++ dktL_law_5
def dkwL_law_3 : List UInt8 := [43, 42, 21, 4, 4, 96, 46, 42, 21, 4, 5, 96, 46, 42, 21, 4, 6, 96, 46, 42, 21, 4, 7, 96]
abbrev dktL_law_3 : List UInt8 := dkwL_law_3 ++ dktL_law_4
def dkwL_law_2 : List UInt8 := [170, 0, 0, 0, 0, 0, 4, 192, 0, 0, 0, 0, 0, 0, 0, 30, 0, 0, 0, 140, 0, 0, 0, 213, 0, 0, 0, 238, 0, 0, 1, 7, 0, 0, 1, 44, 0, 0, 1, 112, 0, 0, 1, 149, 0, 0, 1, 175, 0, 0, 2, 0, 0, 0, 2, 25, 0, 0, 2, 62, 0, 0, 2, 87, 0, 0, 2, 112, 0, 0, 2, 125, 0, 0, 2, 162, 0, 0, 2, 175, 0, 0, 3, 0, 0, 0, 3, 49, 0, 0, 3, 75, 0, 0, 3, 100, 0, 0, 3, 113, 0, 0, 3, 150, 0, 0, 3, 175, 0, 0, 3, 212, 0, 0, 3, 237, 0, 0, 4, 18, 0, 0, 4, 55, 0, 0, 4, 80, 0, 0, 4, 141, 0, 0, 4, 154, 0, 0, 4, 167]
abbrev dktL_law_2 : List UInt8 := dkwL_law_2 ++ dktL_law_3
def dkwL_law_1 : List UInt8 := [21, 4, 42, 190, 16, 6, 100, 163, 4, 208, 42, 21, 4, 46, 16, 31, 126]
abbrev dktL_law_1 : List UInt8 := dkwL_law_1 ++ dktL_law_2
def dkwL_law_0 : List UInt8 := [187, 0, 8, 89, 183, 0, 17, 76, 187, 0, 18, 89, 183, 0, 20, 77, 4, 188, 11, 78, 3, 54, 4]
abbrev dktL_law_0 : List UInt8 := dkwL_law_0 ++ dktL_law_1
theorem dksL_law_0 : cL_law.data.toList.drop 0 = dktL_law_0 := by decide +kernel
theorem dksL_law_1 : cL_law.data.toList.drop 23 = dktL_law_1 := dk_seg dksL_law_0 23 rfl rfl
theorem dksL_law_2 : cL_law.data.toList.drop 40 = dktL_law_2 := dk_seg dksL_law_1 17 rfl rfl
theorem dksL_law_3 : cL_law.data.toList.drop 180 = dktL_law_3 := dk_seg dksL_law_2 140 rfl rfl
theorem dksL_law_4 : cL_law.data.toList.drop 204 = dktL_law_4 := dk_seg dksL_law_3 24 rfl rfl
theorem dksL_law_5 : cL_law.data.toList.drop 228 = dktL_law_5 := dk_seg dksL_law_4 24 rfl rfl
theorem dksL_law_6 : cL_law.data.toList.drop 252 = dktL_law_6 := dk_seg dksL_law_5 24 rfl rfl
theorem dksL_law_7 : cL_law.data.toList.drop 276 = dktL_law_7 := dk_seg dksL_law_6 24 rfl rfl
theorem dksL_law_8 : cL_law.data.toList.drop 298 = dktL_law_8 := dk_seg dksL_law_7 22 rfl rfl
theorem dksL_law_9 : cL_law.data.toList.drop 321 = dktL_law_9 := dk_seg dksL_law_8 23 rfl rfl
theorem dksL_law_10 : cL_law.data.toList.drop 345 = dktL_law_10 := dk_seg dksL_law_9 24 rfl rfl
theorem dksL_law_11 : cL_law.data.toList.drop 369 = dktL_law_11 := dk_seg dksL_law_10 24 rfl rfl
theorem dksL_law_12 : cL_law.data.toList.drop 393 = dktL_law_12 := dk_seg dksL_law_11 24 rfl rfl
theorem dksL_law_13 : cL_law.data.toList.drop 416 = dktL_law_13 := dk_seg dksL_law_12 23 rfl rfl
theorem dksL_law_14 : cL_law.data.toList.drop 440 = dktL_law_14 := dk_seg dksL_law_13 24 rfl rfl
theorem dksL_law_15 : cL_law.data.toList.drop 462 = dktL_law_15 := dk_seg dksL_law_14 22 rfl rfl
theorem dksL_law_16 : cL_law.data.toList.drop 485 = dktL_law_16 := dk_seg dksL_law_15 23 rfl rfl
theorem dksL_law_17 : cL_law.data.toList.drop 509 = dktL_law_17 := dk_seg dksL_law_16 24 rfl rfl
theorem dksL_law_18 : cL_law.data.toList.drop 533 = dktL_law_18 := dk_seg dksL_law_17 24 rfl rfl
theorem dksL_law_19 : cL_law.data.toList.drop 557 = dktL_law_19 := dk_seg dksL_law_18 24 rfl rfl
theorem dksL_law_20 : cL_law.data.toList.drop 581 = dktL_law_20 := dk_seg dksL_law_19 24 rfl rfl
theorem dksL_law_21 : cL_law.data.toList.drop 605 = dktL_law_21 := dk_seg dksL_law_20 24 rfl rfl
theorem dksL_law_22 : cL_law.data.toList.drop 629 = dktL_law_22 := dk_seg dksL_law_21 24 rfl rfl
theorem dksL_law_23 : cL_law.data.toList.drop 653 = dktL_law_23 := dk_seg dksL_law_22 24 rfl rfl
theorem dksL_law_24 : cL_law.data.toList.drop 677 = dktL_law_24 := dk_seg dksL_law_23 24 rfl rfl
theorem dksL_law_25 : cL_law.data.toList.drop 701 = dktL_law_25 := dk_seg dksL_law_24 24 rfl rfl
theorem dksL_law_26 : cL_law.data.toList.drop 725 = dktL_law_26 := dk_seg dksL_law_25 24 rfl rfl
theorem dksL_law_27 : cL_law.data.toList.drop 749 = dktL_law_27 := dk_seg dksL_law_26 24 rfl rfl
theorem dksL_law_28 : cL_law.data.toList.drop 773 = dktL_law_28 := dk_seg dksL_law_27 24 rfl rfl
theorem dksL_law_29 : cL_law.data.toList.drop 797 = dktL_law_29 := dk_seg dksL_law_28 24 rfl rfl
theorem dksL_law_30 : cL_law.data.toList.drop 821 = dktL_law_30 := dk_seg dksL_law_29 24 rfl rfl
theorem dksL_law_31 : cL_law.data.toList.drop 844 = dktL_law_31 := dk_seg dksL_law_30 23 rfl rfl
theorem dksL_law_32 : cL_law.data.toList.drop 868 = dktL_law_32 := dk_seg dksL_law_31 24 rfl rfl
theorem dksL_law_33 : cL_law.data.toList.drop 890 = dktL_law_33 := dk_seg dksL_law_32 22 rfl rfl
theorem dksL_law_34 : cL_law.data.toList.drop 913 = dktL_law_34 := dk_seg dksL_law_33 23 rfl rfl
theorem dksL_law_35 : cL_law.data.toList.drop 937 = dktL_law_35 := dk_seg dksL_law_34 24 rfl rfl
theorem dksL_law_36 : cL_law.data.toList.drop 960 = dktL_law_36 := dk_seg dksL_law_35 23 rfl rfl
theorem dksL_law_37 : cL_law.data.toList.drop 984 = dktL_law_37 := dk_seg dksL_law_36 24 rfl rfl
theorem dksL_law_38 : cL_law.data.toList.drop 1007 = dktL_law_38 := dk_seg dksL_law_37 23 rfl rfl
theorem dksL_law_39 : cL_law.data.toList.drop 1031 = dktL_law_39 := dk_seg dksL_law_38 24 rfl rfl
theorem dksL_law_40 : cL_law.data.toList.drop 1055 = dktL_law_40 := dk_seg dksL_law_39 24 rfl rfl
theorem dksL_law_41 : cL_law.data.toList.drop 1077 = dktL_law_41 := dk_seg dksL_law_40 22 rfl rfl
theorem dksL_law_42 : cL_law.data.toList.drop 1100 = dktL_law_42 := dk_seg dksL_law_41 23 rfl rfl
theorem dksL_law_43 : cL_law.data.toList.drop 1124 = dktL_law_43 := dk_seg dksL_law_42 24 rfl rfl
theorem dksL_law_44 : cL_law.data.toList.drop 1148 = dktL_law_44 := dk_seg dksL_law_43 24 rfl rfl
theorem dksL_law_45 : cL_law.data.toList.drop 1172 = dktL_law_45 := dk_seg dksL_law_44 24 rfl rfl
theorem dksL_law_46 : cL_law.data.toList.drop 1196 = dktL_law_46 := dk_seg dksL_law_45 24 rfl rfl
theorem dksL_law_47 : cL_law.data.toList.drop 1219 = dktL_law_47 := dk_seg dksL_law_46 23 rfl rfl
theorem dksL_law_48 : cL_law.data.toList.drop 1243 = dktL_law_48 := dk_seg dksL_law_47 24 rfl rfl
abbrev cX1_init : ByteArray := prog_1_method_1_code
def dkwX1_init_5 : List UInt8 := [42, 16, 24, 188, 10, 181, 0, 72, 42, 16, 24, 188, 10, 181, 0, 75, 42, 182, 0, 78, 177]
abbrev dktX1_init_5 : List UInt8 := dkwX1_init_5 ++ []
def dkwX1_init_4 : List UInt8 := [188, 10, 181, 0, 59, 42, 16, 60, 188, 11, 181, 0, 62, 42, 187, 0, 65, 89, 183, 0, 67, 181, 0, 68]
abbrev dktX1_init_4 : List UInt8 := dkwX1_init_4 ++ dktX1_init_5
def dkwX1_init_3 : List UInt8 := [187, 0, 43, 89, 42, 183, 0, 45, 181, 0, 52, 42, 16, 60, 189, 0, 43, 181, 0, 55, 42, 16, 60]
abbrev dktX1_init_3 : List UInt8 := dkwX1_init_3 ++ dktX1_init_4
def dkwX1_init_2 : List UInt8 := [181, 0, 36, 42, 16, 24, 188, 10, 181, 0, 40, 42, 187, 0, 43, 89, 42, 183, 0, 45, 181, 0, 48, 42]
abbrev dktX1_init_2 : List UInt8 := dkwX1_init_2 ++ dktX1_init_3
def dkwX1_init_1 : List UInt8 := [183, 0, 23, 181, 0, 24, 42, 18, 28, 188, 11, 181, 0, 29, 42, 2, 181, 0, 33, 42, 16, 24, 188, 10]
abbrev dktX1_init_1 : List UInt8 := dkwX1_init_1 ++ dktX1_init_2
def dkwX1_init_0 : List UInt8 := [42, 183, 0, 5, 42, 17, 2, 88, 188, 8, 181, 0, 13, 42, 2, 181, 0, 17, 42, 187, 0, 21, 89]
abbrev dktX1_init_0 : List UInt8 := dkwX1_init_0 ++ dktX1_init_1
theorem dksX1_init_0 : cX1_init.data.toList.drop 0 = dktX1_init_0 := by decide +kernel
theorem dksX1_init_1 : cX1_init.data.toList.drop 23 = dktX1_init_1 := dk_seg dksX1_init_0 23 rfl rfl
theorem dksX1_init_2 : cX1_init.data.toList.drop 47 = dktX1_init_2 := dk_seg dksX1_init_1 24 rfl rfl
theorem dksX1_init_3 : cX1_init.data.toList.drop 71 = dktX1_init_3 := dk_seg dksX1_init_2 24 rfl rfl
theorem dksX1_init_4 : cX1_init.data.toList.drop 94 = dktX1_init_4 := dk_seg dksX1_init_3 23 rfl rfl
theorem dksX1_init_5 : cX1_init.data.toList.drop 118 = dktX1_init_5 := dk_seg dksX1_init_4 24 rfl rfl
abbrev cX1_lay : ByteArray := prog_1_method_15_code
def dkwX1_lay_3 : List UInt8 := [132, 3, 1, 167, 255, 222, 132, 2, 1, 167, 255, 188, 132, 1, 1, 167, 255, 173, 177]
abbrev dktX1_lay_3 : List UInt8 := dkwX1_lay_3 ++ []
def dkwX1_lay_2 : List UInt8 := [27, 28, 29, 184, 0, 171, 27, 154, 0, 7, 10, 167, 0, 10, 42, 27, 28, 29, 182, 0, 175, 80]
abbrev dktX1_lay_2 : List UInt8 := dkwX1_lay_2 ++ dktX1_lay_3
def dkwX1_lay_1 : List UInt8 := [42, 180, 0, 24, 182, 0, 138, 161, 0, 6, 167, 0, 42, 3, 62, 29, 7, 163, 0, 35, 42, 180, 0, 29]
abbrev dktX1_lay_1 : List UInt8 := dkwX1_lay_1 ++ dktX1_lay_2
def dkwX1_lay_0 : List UInt8 := [3, 60, 27, 17, 2, 88, 163, 0, 82, 3, 61, 28, 16, 12, 163, 0, 68, 28, 16, 12, 162, 0, 17, 28]
abbrev dktX1_lay_0 : List UInt8 := dkwX1_lay_0 ++ dktX1_lay_1
theorem dksX1_lay_0 : cX1_lay.data.toList.drop 0 = dktX1_lay_0 := by decide +kernel
theorem dksX1_lay_1 : cX1_lay.data.toList.drop 24 = dktX1_lay_1 := dk_seg dksX1_lay_0 24 rfl rfl
theorem dksX1_lay_2 : cX1_lay.data.toList.drop 48 = dktX1_lay_2 := dk_seg dksX1_lay_1 24 rfl rfl
theorem dksX1_lay_3 : cX1_lay.data.toList.drop 70 = dktX1_lay_3 := dk_seg dksX1_lay_2 22 rfl rfl
abbrev cX1_at : ByteArray := prog_1_method_12_code
def dkwX1_at_0 : List UInt8 := [26, 16, 13, 104, 27, 96, 8, 104, 28, 96, 172]
abbrev dktX1_at_0 : List UInt8 := dkwX1_at_0 ++ []
theorem dksX1_at_0 : cX1_at.data.toList.drop 0 = dktX1_at_0 := by decide +kernel
abbrev cX1_sumOf : ByteArray := prog_1_method_16_code
def dkwX1_sumOf_5 : List UInt8 := [22, 4, 173]
abbrev dktX1_sumOf_5 : List UInt8 := dkwX1_sumOf_5 ++ []
def dkwX1_sumOf_4 : List UInt8 := [148, 158, 0, 9, 20, 0, 182, 167, 0, 8, 22, 4, 22, 7, 97, 55, 4, 132, 6, 1, 167, 255, 150]
abbrev dktX1_sumOf_4 : List UInt8 := dkwX1_sumOf_4 ++ dktX1_sumOf_5
def dkwX1_sumOf_3 : List UInt8 := [153, 0, 9, 29, 4, 96, 167, 0, 4, 29, 184, 0, 171, 47, 55, 7, 22, 7, 20, 0, 182, 22, 4, 101]
abbrev dktX1_sumOf_3 : List UInt8 := dkwX1_sumOf_3 ++ dktX1_sumOf_4
def dkwX1_sumOf_2 : List UInt8 := [180, 0, 29, 27, 42, 180, 0, 24, 21, 6, 182, 0, 149, 100, 21, 6, 42, 21, 6, 182, 0, 165]
abbrev dktX1_sumOf_2 : List UInt8 := dkwX1_sumOf_2 ++ dktX1_sumOf_3
def dkwX1_sumOf_1 : List UInt8 := [182, 0, 149, 27, 163, 0, 81, 42, 21, 6, 28, 29, 182, 0, 179, 154, 0, 6, 167, 0, 67, 42]
abbrev dktX1_sumOf_1 : List UInt8 := dkwX1_sumOf_1 ++ dktX1_sumOf_2
def dkwX1_sumOf_0 : List UInt8 := [9, 55, 4, 3, 54, 6, 21, 6, 42, 180, 0, 24, 182, 0, 138, 162, 0, 100, 42, 180, 0, 24, 21, 6]
abbrev dktX1_sumOf_0 : List UInt8 := dkwX1_sumOf_0 ++ dktX1_sumOf_1
theorem dksX1_sumOf_0 : cX1_sumOf.data.toList.drop 0 = dktX1_sumOf_0 := by decide +kernel
theorem dksX1_sumOf_1 : cX1_sumOf.data.toList.drop 24 = dktX1_sumOf_1 := dk_seg dksX1_sumOf_0 24 rfl rfl
theorem dksX1_sumOf_2 : cX1_sumOf.data.toList.drop 46 = dktX1_sumOf_2 := dk_seg dksX1_sumOf_1 22 rfl rfl
theorem dksX1_sumOf_3 : cX1_sumOf.data.toList.drop 68 = dktX1_sumOf_3 := dk_seg dksX1_sumOf_2 22 rfl rfl
theorem dksX1_sumOf_4 : cX1_sumOf.data.toList.drop 92 = dktX1_sumOf_4 := dk_seg dksX1_sumOf_3 24 rfl rfl
theorem dksX1_sumOf_5 : cX1_sumOf.data.toList.drop 115 = dktX1_sumOf_5 := dk_seg dksX1_sumOf_4 23 rfl rfl
abbrev cX1_goesOn : ByteArray := prog_1_method_14_code
def dkwX1_goesOn_1 : List UInt8 := [153, 0, 14, 29, 42, 180, 0, 24, 180, 0, 168, 162, 0, 7, 4, 167, 0, 4, 3, 172]
abbrev dktX1_goesOn_1 : List UInt8 := dkwX1_goesOn_1 ++ []
def dkwX1_goesOn_0 : List UInt8 := [28, 16, 12, 159, 0, 15, 42, 180, 0, 24, 27, 28, 182, 0, 161, 153, 0, 26, 42, 27, 182, 0, 165]
abbrev dktX1_goesOn_0 : List UInt8 := dkwX1_goesOn_0 ++ dktX1_goesOn_1
theorem dksX1_goesOn_0 : cX1_goesOn.data.toList.drop 0 = dktX1_goesOn_0 := by decide +kernel
theorem dksX1_goesOn_1 : cX1_goesOn.data.toList.drop 23 = dktX1_goesOn_1 := dk_seg dksX1_goesOn_0 23 rfl rfl
abbrev cX1_isOf : ByteArray := prog_1_method_3_code
def dkwX1_isOf_0 : List UInt8 := [26, 27, 122, 4, 126, 4, 160, 0, 7, 4, 167, 0, 4, 3, 172]
abbrev dktX1_isOf_0 : List UInt8 := dkwX1_isOf_0 ++ []
theorem dksX1_isOf_0 : cX1_isOf.data.toList.drop 0 = dktX1_isOf_0 := by decide +kernel
abbrev cX1_isDusty : ByteArray := prog_1_method_13_code
def dkwX1_isDusty_0 : List UInt8 := [42, 180, 0, 24, 27, 182, 0, 155, 155, 0, 7, 4, 167, 0, 4, 3, 172]
abbrev dktX1_isDusty_0 : List UInt8 := dkwX1_isDusty_0 ++ []
theorem dksX1_isDusty_0 : cX1_isDusty.data.toList.drop 0 = dktX1_isDusty_0 := by decide +kernel
abbrev cX1_feed : ByteArray := prog_1_method_4_code
def dkwX1_feed_2 : List UInt8 := [172]
abbrev dktX1_feed_2 : List UInt8 := dkwX1_feed_2 ++ []
def dkwX1_feed_1 : List UInt8 := [182, 0, 84, 42, 29, 182, 0, 84, 42, 21, 4, 182, 0, 84, 42, 21, 5, 182, 0, 84, 42, 180, 0, 81]
abbrev dktX1_feed_1 : List UInt8 := dkwX1_feed_1 ++ dktX1_feed_2
def dkwX1_feed_0 : List UInt8 := [42, 180, 0, 81, 16, 20, 96, 17, 2, 88, 164, 0, 5, 2, 172, 42, 27, 182, 0, 84, 42, 28]
abbrev dktX1_feed_0 : List UInt8 := dkwX1_feed_0 ++ dktX1_feed_1
theorem dksX1_feed_0 : cX1_feed.data.toList.drop 0 = dktX1_feed_0 := by decide +kernel
theorem dksX1_feed_1 : cX1_feed.data.toList.drop 22 = dktX1_feed_1 := dk_seg dksX1_feed_0 22 rfl rfl
theorem dksX1_feed_2 : cX1_feed.data.toList.drop 46 = dktX1_feed_2 := dk_seg dksX1_feed_1 24 rfl rfl
abbrev cX1_four : ByteArray := prog_1_method_5_code
def dkwX1_four_1 : List UInt8 := [180, 0, 81, 4, 96, 181, 0, 81, 132, 2, 248, 167, 255, 226, 177]
abbrev dktX1_four_1 : List UInt8 := dkwX1_four_1 ++ []
def dkwX1_four_0 : List UInt8 := [16, 24, 61, 28, 155, 0, 32, 42, 180, 0, 13, 42, 180, 0, 81, 27, 28, 122, 145, 84, 42, 89]
abbrev dktX1_four_0 : List UInt8 := dkwX1_four_0 ++ dktX1_four_1
theorem dksX1_four_0 : cX1_four.data.toList.drop 0 = dktX1_four_0 := by decide +kernel
theorem dksX1_four_1 : cX1_four.data.toList.drop 22 = dktX1_four_1 := dk_seg dksX1_four_0 22 rfl rfl
abbrev cX1_text : ByteArray := prog_1_method_6_code
def dkwX1_text_4 : List UInt8 := [3, 181, 0, 125, 42, 182, 0, 78, 42, 180, 0, 24, 180, 0, 128, 172]
abbrev dktX1_text_4 : List UInt8 := dkwX1_text_4 ++ []
def dkwX1_text_3 : List UInt8 := [181, 0, 112, 42, 3, 181, 0, 115, 42, 3, 181, 0, 118, 42, 2, 181, 0, 33, 42, 3, 181, 0, 121, 42]
abbrev dktX1_text_3 : List UInt8 := dkwX1_text_3 ++ dktX1_text_4
def dkwX1_text_2 : List UInt8 := [167, 0, 22, 77, 42, 44, 180, 0, 106, 181, 0, 92, 42, 44, 180, 0, 109, 181, 0, 17, 2, 172, 42, 3]
abbrev dktX1_text_2 : List UInt8 := dkwX1_text_2 ++ dktX1_text_3
def dkwX1_text_1 : List UInt8 := [181, 0, 92, 42, 2, 181, 0, 17, 42, 187, 0, 95, 89, 42, 27, 183, 0, 97, 182, 0, 100, 181, 0, 24]
abbrev dktX1_text_1 : List UInt8 := dkwX1_text_1 ++ dktX1_text_2
def dkwX1_text_0 : List UInt8 := [27, 3, 42, 180, 0, 81, 184, 0, 88, 154, 0, 6, 16, 254, 172, 42, 3, 181, 0, 81, 42, 3]
abbrev dktX1_text_0 : List UInt8 := dkwX1_text_0 ++ dktX1_text_1
theorem dksX1_text_0 : cX1_text.data.toList.drop 0 = dktX1_text_0 := by decide +kernel
theorem dksX1_text_1 : cX1_text.data.toList.drop 22 = dktX1_text_1 := dk_seg dksX1_text_0 22 rfl rfl
theorem dksX1_text_2 : cX1_text.data.toList.drop 46 = dktX1_text_2 := dk_seg dksX1_text_1 24 rfl rfl
theorem dksX1_text_3 : cX1_text.data.toList.drop 70 = dktX1_text_3 := dk_seg dksX1_text_2 24 rfl rfl
theorem dksX1_text_4 : cX1_text.data.toList.drop 94 = dktX1_text_4 := dk_seg dksX1_text_3 24 rfl rfl
abbrev cX1_isIn : ByteArray := prog_1_method_2_code
def dkwX1_isIn_0 : List UInt8 := [26, 27, 161, 0, 12, 26, 28, 163, 0, 7, 4, 167, 0, 4, 3, 172]
abbrev dktX1_isIn_0 : List UInt8 := dkwX1_isIn_0 ++ []
theorem dksX1_isIn_0 : cX1_isIn.data.toList.drop 0 = dktX1_isIn_0 := by decide +kernel
abbrev cX1_fault : ByteArray := prog_1_method_7_code
def dkwX1_fault_1 : List UInt8 := [172]
abbrev dktX1_fault_1 : List UInt8 := dkwX1_fault_1 ++ []
def dkwX1_fault_0 : List UInt8 := [27, 154, 0, 10, 42, 180, 0, 92, 167, 0, 16, 27, 4, 160, 0, 10, 42, 180, 0, 17, 167, 0, 4, 2]
abbrev dktX1_fault_0 : List UInt8 := dkwX1_fault_0 ++ dktX1_fault_1
theorem dksX1_fault_0 : cX1_fault.data.toList.drop 0 = dktX1_fault_0 := by decide +kernel
theorem dksX1_fault_1 : cX1_fault.data.toList.drop 24 = dktX1_fault_1 := dk_seg dksX1_fault_0 24 rfl rfl
abbrev cX1_named : ByteArray := prog_1_method_8_code
def dkwX1_named_1 : List UInt8 := [28, 182, 0, 135, 167, 0, 4, 2, 172]
abbrev dktX1_named_1 : List UInt8 := dkwX1_named_1 ++ []
def dkwX1_named_0 : List UInt8 := [27, 154, 0, 14, 42, 180, 0, 24, 28, 182, 0, 131, 167, 0, 20, 27, 4, 160, 0, 14, 42, 180, 0, 24]
abbrev dktX1_named_0 : List UInt8 := dkwX1_named_0 ++ dktX1_named_1
theorem dksX1_named_0 : cX1_named.data.toList.drop 0 = dktX1_named_0 := by decide +kernel
theorem dksX1_named_1 : cX1_named.data.toList.drop 24 = dktX1_named_1 := dk_seg dksX1_named_0 24 rfl rfl
abbrev cX1_sticks : ByteArray := prog_1_method_11_code
def dkwX1_sticks_1 : List UInt8 := [27, 28, 182, 0, 161, 153, 0, 7, 4, 167, 0, 4, 3, 172]
abbrev dktX1_sticks_1 : List UInt8 := dkwX1_sticks_1 ++ []
def dkwX1_sticks_0 : List UInt8 := [42, 27, 182, 0, 142, 153, 0, 11, 42, 28, 182, 0, 142, 154, 0, 7, 2, 167, 0, 20, 42, 180, 0, 24]
abbrev dktX1_sticks_0 : List UInt8 := dkwX1_sticks_0 ++ dktX1_sticks_1
theorem dksX1_sticks_0 : cX1_sticks.data.toList.drop 0 = dktX1_sticks_0 := by decide +kernel
theorem dksX1_sticks_1 : cX1_sticks.data.toList.drop 24 = dktX1_sticks_1 := dk_seg dksX1_sticks_0 24 rfl rfl
abbrev cX1_isLetter : ByteArray := prog_1_method_9_code
def dkwX1_isLetter_0 : List UInt8 := [27, 3, 42, 180, 0, 24, 182, 0, 138, 4, 100, 184, 0, 88, 172]
abbrev dktX1_isLetter_0 : List UInt8 := dkwX1_isLetter_0 ++ []
theorem dksX1_isLetter_0 : cX1_isLetter.data.toList.drop 0 = dktX1_isLetter_0 := by decide +kernel
abbrev cX1_many : ByteArray := prog_1_method_17_code
def dkwX1_many_1 : List UInt8 := [184, 0, 171, 47, 65, 32, 20, 0, 186, 148, 158, 0, 9, 20, 0, 188, 167, 0, 4, 32, 173]
abbrev dktX1_many_1 : List UInt8 := dkwX1_many_1 ++ []
def dkwX1_many_0 : List UInt8 := [27, 4, 17, 2, 88, 184, 0, 88, 154, 0, 7, 20, 0, 184, 173, 42, 180, 0, 29, 27, 16, 12, 3]
abbrev dktX1_many_0 : List UInt8 := dkwX1_many_0 ++ dktX1_many_1
theorem dksX1_many_0 : cX1_many.data.toList.drop 0 = dktX1_many_0 := by decide +kernel
theorem dksX1_many_1 : cX1_many.data.toList.drop 23 = dktX1_many_1 := dk_seg dksX1_many_0 23 rfl rfl
abbrev cX1_kth : ByteArray := prog_1_method_18_code
def dkwX1_kth_10 : List UInt8 := [167, 255, 101, 16, 254, 172]
abbrev dktX1_kth_10 : List UInt8 := dkwX1_kth_10 ++ []
def dkwX1_kth_9 : List UInt8 := [42, 21, 11, 182, 0, 165, 153, 0, 7, 4, 167, 0, 4, 3, 96, 54, 7, 21, 11, 54, 6, 132, 10, 1]
abbrev dktX1_kth_9 : List UInt8 := dkwX1_kth_9 ++ dktX1_kth_10
def dkwX1_kth_8 : List UInt8 := [21, 4, 160, 0, 6, 21, 11, 172, 21, 5, 42, 180, 0, 24, 21, 11, 182, 0, 149, 100, 54, 5, 21, 7]
abbrev dktX1_kth_8 : List UInt8 := dkwX1_kth_8 ++ dktX1_kth_9
def dkwX1_kth_7 : List UInt8 := [22, 12, 148, 156, 0, 6, 167, 0, 16, 22, 8, 22, 12, 101, 55, 8, 132, 11, 1, 167, 255, 162, 21, 10]
abbrev dktX1_kth_7 : List UInt8 := dkwX1_kth_7 ++ dktX1_kth_8
def dkwX1_kth_6 : List UInt8 := [182, 0, 165, 153, 0, 10, 21, 7, 4, 96, 167, 0, 5, 21, 7, 184, 0, 171, 47, 55, 12, 22, 8]
abbrev dktX1_kth_6 : List UInt8 := dkwX1_kth_6 ++ dktX1_kth_7
def dkwX1_kth_5 : List UInt8 := [167, 0, 43, 42, 180, 0, 29, 21, 5, 42, 180, 0, 24, 21, 11, 182, 0, 149, 100, 21, 11, 42, 21, 11]
abbrev dktX1_kth_5 : List UInt8 := dkwX1_kth_5 ++ dktX1_kth_6
def dkwX1_kth_4 : List UInt8 := [182, 0, 149, 21, 5, 163, 0, 16, 42, 21, 11, 21, 6, 21, 7, 182, 0, 179, 154, 0, 7, 9]
abbrev dktX1_kth_4 : List UInt8 := dkwX1_kth_4 ++ dktX1_kth_5
def dkwX1_kth_3 : List UInt8 := [3, 54, 7, 32, 55, 8, 3, 54, 10, 21, 5, 158, 0, 156, 3, 54, 11, 42, 180, 0, 24, 21, 11]
abbrev dktX1_kth_3 : List UInt8 := dkwX1_kth_3 ++ dktX1_kth_4
def dkwX1_kth_2 : List UInt8 := [180, 0, 29, 27, 16, 12, 3, 184, 0, 171, 47, 148, 155, 0, 5, 2, 172, 27, 54, 5, 16, 12, 54, 6]
abbrev dktX1_kth_2 : List UInt8 := dkwX1_kth_2 ++ dktX1_kth_3
def dkwX1_kth_1 : List UInt8 := [42, 180, 0, 29, 27, 16, 12, 3, 184, 0, 171, 47, 20, 0, 186, 148, 158, 0, 6, 16, 254, 172, 32, 42]
abbrev dktX1_kth_1 : List UInt8 := dkwX1_kth_1 ++ dktX1_kth_2
def dkwX1_kth_0 : List UInt8 := [27, 4, 17, 2, 88, 184, 0, 88, 153, 0, 14, 32, 9, 148, 155, 0, 8, 21, 4, 156, 0, 5, 2, 172]
abbrev dktX1_kth_0 : List UInt8 := dkwX1_kth_0 ++ dktX1_kth_1
theorem dksX1_kth_0 : cX1_kth.data.toList.drop 0 = dktX1_kth_0 := by decide +kernel
theorem dksX1_kth_1 : cX1_kth.data.toList.drop 24 = dktX1_kth_1 := dk_seg dksX1_kth_0 24 rfl rfl
theorem dksX1_kth_2 : cX1_kth.data.toList.drop 48 = dktX1_kth_2 := dk_seg dksX1_kth_1 24 rfl rfl
theorem dksX1_kth_3 : cX1_kth.data.toList.drop 72 = dktX1_kth_3 := dk_seg dksX1_kth_2 24 rfl rfl
theorem dksX1_kth_4 : cX1_kth.data.toList.drop 95 = dktX1_kth_4 := dk_seg dksX1_kth_3 23 rfl rfl
theorem dksX1_kth_5 : cX1_kth.data.toList.drop 117 = dktX1_kth_5 := dk_seg dksX1_kth_4 22 rfl rfl
theorem dksX1_kth_6 : cX1_kth.data.toList.drop 141 = dktX1_kth_6 := dk_seg dksX1_kth_5 24 rfl rfl
theorem dksX1_kth_7 : cX1_kth.data.toList.drop 164 = dktX1_kth_7 := dk_seg dksX1_kth_6 23 rfl rfl
theorem dksX1_kth_8 : cX1_kth.data.toList.drop 188 = dktX1_kth_8 := dk_seg dksX1_kth_7 24 rfl rfl
theorem dksX1_kth_9 : cX1_kth.data.toList.drop 212 = dktX1_kth_9 := dk_seg dksX1_kth_8 24 rfl rfl
theorem dksX1_kth_10 : cX1_kth.data.toList.drop 236 = dktX1_kth_10 := dk_seg dksX1_kth_9 24 rfl rfl
abbrev cX1_whole : ByteArray := prog_1_method_19_code
def dkwX1_whole_1 : List UInt8 := [172]
abbrev dktX1_whole_1 : List UInt8 := dkwX1_whole_1 ++ []
def dkwX1_whole_0 : List UInt8 := [27, 3, 17, 7, 208, 184, 0, 88, 154, 0, 5, 3, 172, 42, 27, 181, 0, 112, 42, 3, 181, 0, 125, 4]
abbrev dktX1_whole_0 : List UInt8 := dkwX1_whole_0 ++ dktX1_whole_1
theorem dksX1_whole_0 : cX1_whole.data.toList.drop 0 = dktX1_whole_0 := by decide +kernel
theorem dksX1_whole_1 : cX1_whole.data.toList.drop 24 = dktX1_whole_1 := dk_seg dksX1_whole_0 24 rfl rfl
abbrev cX1_crumb : ByteArray := prog_1_method_20_code
def dkwX1_crumb_3 : List UInt8 := [4, 100, 172]
abbrev dktX1_crumb_3 : List UInt8 := dkwX1_crumb_3 ++ []
def dkwX1_crumb_2 : List UInt8 := [180, 0, 115, 28, 79, 42, 89, 180, 0, 115, 4, 96, 181, 0, 115, 42, 3, 181, 0, 125, 42, 180, 0, 115]
abbrev dktX1_crumb_2 : List UInt8 := dkwX1_crumb_2 ++ dktX1_crumb_3
def dkwX1_crumb_1 : List UInt8 := [184, 0, 88, 154, 0, 5, 2, 172, 42, 180, 0, 36, 42, 180, 0, 115, 27, 79, 42, 180, 0, 40, 42]
abbrev dktX1_crumb_1 : List UInt8 := dkwX1_crumb_1 ++ dktX1_crumb_2
def dkwX1_crumb_0 : List UInt8 := [42, 180, 0, 115, 16, 24, 159, 0, 23, 27, 3, 6, 184, 0, 88, 153, 0, 14, 28, 3, 17, 39, 15]
abbrev dktX1_crumb_0 : List UInt8 := dkwX1_crumb_0 ++ dktX1_crumb_1
theorem dksX1_crumb_0 : cX1_crumb.data.toList.drop 0 = dktX1_crumb_0 := by decide +kernel
theorem dksX1_crumb_1 : cX1_crumb.data.toList.drop 23 = dktX1_crumb_1 := dk_seg dksX1_crumb_0 23 rfl rfl
theorem dksX1_crumb_2 : cX1_crumb.data.toList.drop 46 = dktX1_crumb_2 := dk_seg dksX1_crumb_1 23 rfl rfl
theorem dksX1_crumb_3 : cX1_crumb.data.toList.drop 70 = dktX1_crumb_3 := dk_seg dksX1_crumb_2 24 rfl rfl
abbrev cX1_strike : ByteArray := prog_1_method_21_code
def dkwX1_strike_1 : List UInt8 := [153, 0, 5, 3, 172, 42, 89, 180, 0, 118, 4, 27, 120, 128, 181, 0, 118, 42, 3, 181, 0, 125, 4, 172]
abbrev dktX1_strike_1 : List UInt8 := dkwX1_strike_1 ++ []
def dkwX1_strike_0 : List UInt8 := [27, 3, 42, 180, 0, 115, 4, 100, 184, 0, 88, 153, 0, 14, 42, 180, 0, 118, 27, 184, 0, 190]
abbrev dktX1_strike_0 : List UInt8 := dkwX1_strike_0 ++ dktX1_strike_1
theorem dksX1_strike_0 : cX1_strike.data.toList.drop 0 = dktX1_strike_0 := by decide +kernel
theorem dksX1_strike_1 : cX1_strike.data.toList.drop 22 = dktX1_strike_1 := dk_seg dksX1_strike_0 22 rfl rfl
abbrev cX1_known : ByteArray := prog_1_method_22_code
def dkwX1_known_1 : List UInt8 := [4, 172]
abbrev dktX1_known_1 : List UInt8 := dkwX1_known_1 ++ []
def dkwX1_known_0 : List UInt8 := [27, 2, 42, 180, 0, 115, 184, 0, 88, 154, 0, 5, 3, 172, 42, 27, 181, 0, 33, 42, 3, 181, 0, 125]
abbrev dktX1_known_0 : List UInt8 := dkwX1_known_0 ++ dktX1_known_1
theorem dksX1_known_0 : cX1_known.data.toList.drop 0 = dktX1_known_0 := by decide +kernel
theorem dksX1_known_1 : cX1_known.data.toList.drop 24 = dktX1_known_1 := dk_seg dksX1_known_0 24 rfl rfl
abbrev cX1_found : ByteArray := prog_1_method_30_code
def dkwX1_found_1 : List UInt8 := [167, 0, 7, 42, 180, 0, 221, 172]
abbrev dktX1_found_1 : List UInt8 := dkwX1_found_1 ++ []
def dkwX1_found_0 : List UInt8 := [42, 180, 0, 112, 154, 0, 5, 2, 172, 42, 182, 1, 17, 42, 180, 1, 4, 153, 0, 8, 16, 254]
abbrev dktX1_found_0 : List UInt8 := dkwX1_found_0 ++ dktX1_found_1
theorem dksX1_found_0 : cX1_found.data.toList.drop 0 = dktX1_found_0 := by decide +kernel
theorem dksX1_found_1 : cX1_found.data.toList.drop 22 = dktX1_found_1 := dk_seg dksX1_found_0 22 rfl rfl
abbrev cX1_find : ByteArray := prog_1_method_28_code
def dkwX1_find_7 : List UInt8 := [180, 0, 59, 28, 27, 79, 132, 1, 1, 167, 255, 173, 177]
abbrev dktX1_find_7 : List UInt8 := dkwX1_find_7 ++ []
def dkwX1_find_6 : List UInt8 := [156, 0, 23, 42, 180, 0, 59, 28, 42, 180, 0, 59, 28, 4, 100, 46, 79, 132, 2, 255, 167, 255, 212, 42]
abbrev dktX1_find_6 : List UInt8 := dkwX1_find_6 ++ dktX1_find_7
def dkwX1_find_5 : List UInt8 := [158, 0, 46, 42, 180, 0, 62, 42, 180, 0, 59, 28, 4, 100, 46, 47, 42, 180, 0, 62, 27, 47, 148]
abbrev dktX1_find_5 : List UInt8 := dkwX1_find_5 ++ dktX1_find_6
def dkwX1_find_4 : List UInt8 := [162, 0, 81, 42, 180, 0, 62, 27, 42, 42, 180, 0, 55, 27, 50, 182, 1, 13, 80, 27, 61, 28]
abbrev dktX1_find_4 : List UInt8 := dkwX1_find_4 ++ dktX1_find_5
def dkwX1_find_3 : List UInt8 := [181, 0, 199, 42, 180, 1, 4, 153, 0, 8, 42, 3, 181, 0, 221, 3, 60, 27, 42, 180, 0, 221]
abbrev dktX1_find_3 : List UInt8 := dkwX1_find_3 ++ dktX1_find_4
def dkwX1_find_2 : List UInt8 := [16, 60, 164, 0, 7, 4, 167, 0, 4, 3, 181, 1, 4, 42, 42, 180, 0, 199, 18, 202, 184, 1, 7]
abbrev dktX1_find_2 : List UInt8 := dkwX1_find_2 ++ dktX1_find_3
def dkwX1_find_1 : List UInt8 := [180, 0, 48, 182, 1, 1, 42, 182, 0, 215, 42, 42, 180, 0, 199, 18, 202, 163, 0, 12, 42, 180, 0, 221]
abbrev dktX1_find_1 : List UInt8 := dkwX1_find_1 ++ dktX1_find_2
def dkwX1_find_0 : List UInt8 := [42, 180, 0, 125, 153, 0, 4, 177, 42, 4, 181, 0, 125, 42, 3, 181, 0, 221, 42, 3, 181, 0, 199, 42]
abbrev dktX1_find_0 : List UInt8 := dkwX1_find_0 ++ dktX1_find_1
theorem dksX1_find_0 : cX1_find.data.toList.drop 0 = dktX1_find_0 := by decide +kernel
theorem dksX1_find_1 : cX1_find.data.toList.drop 24 = dktX1_find_1 := dk_seg dksX1_find_0 24 rfl rfl
theorem dksX1_find_2 : cX1_find.data.toList.drop 48 = dktX1_find_2 := dk_seg dksX1_find_1 24 rfl rfl
theorem dksX1_find_3 : cX1_find.data.toList.drop 71 = dktX1_find_3 := dk_seg dksX1_find_2 23 rfl rfl
theorem dksX1_find_4 : cX1_find.data.toList.drop 93 = dktX1_find_4 := dk_seg dksX1_find_3 22 rfl rfl
theorem dksX1_find_5 : cX1_find.data.toList.drop 115 = dktX1_find_5 := dk_seg dksX1_find_4 22 rfl rfl
theorem dksX1_find_6 : cX1_find.data.toList.drop 138 = dktX1_find_6 := dk_seg dksX1_find_5 23 rfl rfl
theorem dksX1_find_7 : cX1_find.data.toList.drop 162 = dktX1_find_7 := dk_seg dksX1_find_6 24 rfl rfl
abbrev cX1_grow : ByteArray := prog_1_method_25_code
def dkwX1_grow_5 : List UInt8 := [182, 0, 212, 167, 0, 7, 42, 182, 0, 215, 42, 180, 0, 48, 182, 0, 218, 132, 1, 1, 167, 255, 135, 177]
abbrev dktX1_grow_5 : List UInt8 := dkwX1_grow_5 ++ []
def dkwX1_grow_4 : List UInt8 := [180, 0, 48, 27, 182, 0, 209, 42, 180, 0, 48, 182, 0, 203, 42, 180, 0, 112, 160, 0, 10, 42]
abbrev dktX1_grow_4 : List UInt8 := dkwX1_grow_4 ++ dktX1_grow_5
def dkwX1_grow_3 : List UInt8 := [180, 0, 208, 182, 0, 179, 154, 0, 6, 167, 0, 53, 42, 89, 180, 0, 199, 4, 96, 181, 0, 199, 42]
abbrev dktX1_grow_3 : List UInt8 := dkwX1_grow_3 ++ dktX1_grow_4
def dkwX1_grow_2 : List UInt8 := [182, 0, 149, 96, 42, 180, 0, 112, 163, 0, 78, 42, 27, 42, 180, 0, 48, 182, 0, 205, 42, 180, 0, 48]
abbrev dktX1_grow_2 : List UInt8 := dkwX1_grow_2 ++ dktX1_grow_3
def dkwX1_grow_1 : List UInt8 := [162, 0, 116, 42, 180, 0, 199, 18, 202, 163, 0, 107, 42, 180, 0, 48, 182, 0, 203, 42, 180, 0, 24, 27]
abbrev dktX1_grow_1 : List UInt8 := dkwX1_grow_1 ++ dktX1_grow_2
def dkwX1_grow_0 : List UInt8 := [42, 180, 0, 48, 180, 0, 196, 16, 12, 160, 0, 4, 177, 3, 60, 27, 42, 180, 0, 24, 182, 0, 138]
abbrev dktX1_grow_0 : List UInt8 := dkwX1_grow_0 ++ dktX1_grow_1
theorem dksX1_grow_0 : cX1_grow.data.toList.drop 0 = dktX1_grow_0 := by decide +kernel
theorem dksX1_grow_1 : cX1_grow.data.toList.drop 23 = dktX1_grow_1 := dk_seg dksX1_grow_0 23 rfl rfl
theorem dksX1_grow_2 : cX1_grow.data.toList.drop 47 = dktX1_grow_2 := dk_seg dksX1_grow_1 24 rfl rfl
theorem dksX1_grow_3 : cX1_grow.data.toList.drop 71 = dktX1_grow_3 := dk_seg dksX1_grow_2 24 rfl rfl
theorem dksX1_grow_4 : cX1_grow.data.toList.drop 94 = dktX1_grow_4 := dk_seg dksX1_grow_3 23 rfl rfl
theorem dksX1_grow_5 : cX1_grow.data.toList.drop 116 = dktX1_grow_5 := dk_seg dksX1_grow_4 22 rfl rfl
abbrev cX1_keep1 : ByteArray := prog_1_method_26_code
def dkwX1_keep1_4 : List UInt8 := [180, 0, 221, 4, 96, 181, 0, 221, 177]
abbrev dktX1_keep1_4 : List UInt8 := dkwX1_keep1_4 ++ []
def dkwX1_keep1_3 : List UInt8 := [183, 0, 45, 83, 42, 180, 0, 55, 42, 180, 0, 221, 50, 42, 180, 0, 48, 182, 0, 234, 42, 89]
abbrev dktX1_keep1_3 : List UInt8 := dkwX1_keep1_3 ++ dktX1_keep1_4
def dkwX1_keep1_2 : List UInt8 := [180, 0, 55, 42, 180, 0, 221, 50, 199, 0, 20, 42, 180, 0, 55, 42, 180, 0, 221, 187, 0, 43, 89, 42]
abbrev dktX1_keep1_2 : List UInt8 := dkwX1_keep1_2 ++ dktX1_keep1_3
def dkwX1_keep1_1 : List UInt8 := [182, 0, 228, 42, 180, 0, 24, 180, 0, 231, 164, 0, 4, 177, 42, 180, 0, 221, 16, 60, 162, 0, 48, 42]
abbrev dktX1_keep1_1 : List UInt8 := dkwX1_keep1_1 ++ dktX1_keep1_2
def dkwX1_keep1_0 : List UInt8 := [42, 180, 0, 221, 16, 60, 163, 0, 30, 42, 180, 0, 48, 182, 0, 224, 153, 0, 20, 42, 180, 0, 48]
abbrev dktX1_keep1_0 : List UInt8 := dkwX1_keep1_0 ++ dktX1_keep1_1
theorem dksX1_keep1_0 : cX1_keep1.data.toList.drop 0 = dktX1_keep1_0 := by decide +kernel
theorem dksX1_keep1_1 : cX1_keep1.data.toList.drop 23 = dktX1_keep1_1 := dk_seg dksX1_keep1_0 23 rfl rfl
theorem dksX1_keep1_2 : cX1_keep1.data.toList.drop 47 = dktX1_keep1_2 := dk_seg dksX1_keep1_1 24 rfl rfl
theorem dksX1_keep1_3 : cX1_keep1.data.toList.drop 71 = dktX1_keep1_3 := dk_seg dksX1_keep1_2 24 rfl rfl
theorem dksX1_keep1_4 : cX1_keep1.data.toList.drop 93 = dktX1_keep1_4 := dk_seg dksX1_keep1_3 22 rfl rfl
abbrev cX1_knownBy : ByteArray := prog_1_method_23_code
def dkwX1_knownBy_0 : List UInt8 := [42, 180, 0, 33, 156, 0, 10, 42, 180, 0, 115, 167, 0, 7, 42, 180, 0, 33, 172]
abbrev dktX1_knownBy_0 : List UInt8 := dkwX1_knownBy_0 ++ []
theorem dksX1_knownBy_0 : cX1_knownBy.data.toList.drop 0 = dktX1_knownBy_0 := by decide +kernel
abbrev cX1_isKnown : ByteArray := prog_1_method_24_code
def dkwX1_isKnown_1 : List UInt8 := [154, 0, 7, 4, 167, 0, 4, 3, 172]
abbrev dktX1_isKnown_1 : List UInt8 := dkwX1_isKnown_1 ++ []
def dkwX1_isKnown_0 : List UInt8 := [27, 3, 42, 182, 0, 193, 4, 100, 184, 0, 88, 153, 0, 18, 42, 180, 0, 118, 27, 184, 0, 190]
abbrev dktX1_isKnown_0 : List UInt8 := dkwX1_isKnown_0 ++ dktX1_isKnown_1
theorem dksX1_isKnown_0 : cX1_isKnown.data.toList.drop 0 = dktX1_isKnown_0 := by decide +kernel
theorem dksX1_isKnown_1 : cX1_isKnown.data.toList.drop 22 = dktX1_isKnown_1 := dk_seg dksX1_isKnown_0 22 rfl rfl
abbrev cX1_scoreOf : ByteArray := prog_1_method_27_code
def dkwX1_scoreOf_6 : List UInt8 := [180, 0, 68, 180, 0, 248, 153, 0, 7, 9, 167, 0, 5, 22, 4, 173]
abbrev dktX1_scoreOf_6 : List UInt8 := dkwX1_scoreOf_6 ++ []
def dkwX1_scoreOf_5 : List UInt8 := [181, 0, 248, 42, 180, 0, 24, 180, 0, 241, 42, 180, 0, 68, 185, 0, 251, 2, 0, 55, 4, 42]
abbrev dktX1_scoreOf_5 : List UInt8 := dkwX1_scoreOf_5 ++ dktX1_scoreOf_6
def dkwX1_scoreOf_4 : List UInt8 := [180, 0, 208, 133, 80, 42, 180, 0, 68, 180, 0, 245, 8, 43, 182, 0, 203, 133, 80, 42, 180, 0, 68, 3]
abbrev dktX1_scoreOf_4 : List UInt8 := dkwX1_scoreOf_4 ++ dktX1_scoreOf_5
def dkwX1_scoreOf_3 : List UInt8 := [180, 0, 68, 180, 0, 245, 6, 43, 180, 0, 196, 133, 80, 42, 180, 0, 68, 180, 0, 245, 7, 43]
abbrev dktX1_scoreOf_3 : List UInt8 := dkwX1_scoreOf_3 ++ dktX1_scoreOf_4
def dkwX1_scoreOf_2 : List UInt8 := [180, 0, 196, 4, 100, 104, 28, 100, 133, 80, 42, 180, 0, 68, 180, 0, 245, 5, 29, 133, 80, 42]
abbrev dktX1_scoreOf_2 : List UInt8 := dkwX1_scoreOf_2 ++ dktX1_scoreOf_3
def dkwX1_scoreOf_1 : List UInt8 := [173, 42, 180, 0, 68, 180, 0, 245, 3, 28, 133, 80, 42, 180, 0, 68, 180, 0, 245, 4, 5, 43]
abbrev dktX1_scoreOf_1 : List UInt8 := dkwX1_scoreOf_1 ++ dktX1_scoreOf_2
def dkwX1_scoreOf_0 : List UInt8 := [43, 182, 0, 238, 61, 43, 182, 0, 228, 62, 42, 180, 0, 24, 180, 0, 241, 199, 0, 8, 28, 29, 100, 133]
abbrev dktX1_scoreOf_0 : List UInt8 := dkwX1_scoreOf_0 ++ dktX1_scoreOf_1
theorem dksX1_scoreOf_0 : cX1_scoreOf.data.toList.drop 0 = dktX1_scoreOf_0 := by decide +kernel
theorem dksX1_scoreOf_1 : cX1_scoreOf.data.toList.drop 24 = dktX1_scoreOf_1 := dk_seg dksX1_scoreOf_0 24 rfl rfl
theorem dksX1_scoreOf_2 : cX1_scoreOf.data.toList.drop 46 = dktX1_scoreOf_2 := dk_seg dksX1_scoreOf_1 22 rfl rfl
theorem dksX1_scoreOf_3 : cX1_scoreOf.data.toList.drop 68 = dktX1_scoreOf_3 := dk_seg dksX1_scoreOf_2 22 rfl rfl
theorem dksX1_scoreOf_4 : cX1_scoreOf.data.toList.drop 90 = dktX1_scoreOf_4 := dk_seg dksX1_scoreOf_3 22 rfl rfl
theorem dksX1_scoreOf_5 : cX1_scoreOf.data.toList.drop 114 = dktX1_scoreOf_5 := dk_seg dksX1_scoreOf_4 24 rfl rfl
theorem dksX1_scoreOf_6 : cX1_scoreOf.data.toList.drop 136 = dktX1_scoreOf_6 := dk_seg dksX1_scoreOf_5 22 rfl rfl
abbrev cX1_string : ByteArray := prog_1_method_31_code
def dkwX1_string_3 : List UInt8 := [180, 0, 55, 27, 50, 180, 1, 23, 28, 46, 167, 0, 5, 16, 254, 172]
abbrev dktX1_string_3 : List UInt8 := dkwX1_string_3 ++ []
def dkwX1_string_2 : List UInt8 := [27, 50, 180, 0, 196, 167, 0, 32, 28, 42, 180, 0, 55, 27, 50, 180, 0, 196, 162, 0, 17, 42]
abbrev dktX1_string_2 : List UInt8 := dkwX1_string_2 ++ dktX1_string_3
def dkwX1_string_1 : List UInt8 := [42, 180, 1, 4, 153, 0, 6, 16, 254, 172, 29, 154, 0, 5, 2, 172, 28, 156, 0, 15, 42, 180, 0, 55]
abbrev dktX1_string_1 : List UInt8 := dkwX1_string_1 ++ dktX1_string_2
def dkwX1_string_0 : List UInt8 := [42, 180, 0, 112, 153, 0, 12, 27, 155, 0, 8, 28, 2, 162, 0, 5, 2, 172, 42, 27, 182, 1, 20, 62]
abbrev dktX1_string_0 : List UInt8 := dkwX1_string_0 ++ dktX1_string_1
theorem dksX1_string_0 : cX1_string.data.toList.drop 0 = dktX1_string_0 := by decide +kernel
theorem dksX1_string_1 : cX1_string.data.toList.drop 24 = dktX1_string_1 := dk_seg dksX1_string_0 24 rfl rfl
theorem dksX1_string_2 : cX1_string.data.toList.drop 48 = dktX1_string_2 := dk_seg dksX1_string_1 24 rfl rfl
theorem dksX1_string_3 : cX1_string.data.toList.drop 70 = dktX1_string_3 := dk_seg dksX1_string_2 22 rfl rfl
abbrev cX1_isFound : ByteArray := prog_1_method_29_code
def dkwX1_isFound_0 : List UInt8 := [42, 182, 1, 17, 27, 3, 42, 180, 0, 221, 4, 100, 184, 0, 88, 172]
abbrev dktX1_isFound_0 : List UInt8 := dkwX1_isFound_0 ++ []
theorem dksX1_isFound_0 : cX1_isFound.data.toList.drop 0 = dktX1_isFound_0 := by decide +kernel
abbrev cX1_looks : ByteArray := prog_1_method_32_code
def dkwX1_looks_0 : List UInt8 := [42, 180, 0, 112, 154, 0, 5, 2, 172, 42, 182, 1, 17, 42, 180, 0, 199, 172]
abbrev dktX1_looks_0 : List UInt8 := dkwX1_looks_0 ++ []
theorem dksX1_looks_0 : cX1_looks.data.toList.drop 0 = dktX1_looks_0 := by decide +kernel
abbrev cX1_judge : ByteArray := prog_1_method_35_code
def dkwX1_judge_4 : List UInt8 := [167, 0, 20, 21, 5, 42, 180, 0, 24, 180, 0, 231, 164, 0, 7, 6, 167, 0, 4, 3, 172]
abbrev dktX1_judge_4 : List UInt8 := dkwX1_judge_4 ++ []
def dkwX1_judge_3 : List UInt8 := [160, 0, 8, 21, 5, 167, 0, 38, 42, 180, 0, 52, 182, 0, 203, 42, 180, 0, 112, 159, 0, 7, 5]
abbrev dktX1_judge_3 : List UInt8 := dkwX1_judge_3 ++ dktX1_judge_4
def dkwX1_judge_2 : List UInt8 := [172, 21, 4, 4, 160, 0, 8, 42, 182, 1, 38, 172, 42, 180, 0, 52, 182, 0, 228, 54, 5, 21, 4, 5]
abbrev dktX1_judge_2 : List UInt8 := dkwX1_judge_2 ++ dktX1_judge_3
def dkwX1_judge_1 : List UInt8 := [154, 0, 5, 2, 172, 42, 27, 32, 182, 1, 34, 154, 0, 14, 21, 4, 154, 0, 7, 4, 167, 0, 4, 2]
abbrev dktX1_judge_1 : List UInt8 := dkwX1_judge_1 ++ dktX1_judge_2
def dkwX1_judge_0 : List UInt8 := [42, 180, 0, 112, 153, 0, 23, 27, 4, 16, 12, 184, 0, 88, 153, 0, 13, 21, 4, 3, 5, 184, 0, 88]
abbrev dktX1_judge_0 : List UInt8 := dkwX1_judge_0 ++ dktX1_judge_1
theorem dksX1_judge_0 : cX1_judge.data.toList.drop 0 = dktX1_judge_0 := by decide +kernel
theorem dksX1_judge_1 : cX1_judge.data.toList.drop 24 = dktX1_judge_1 := dk_seg dksX1_judge_0 24 rfl rfl
theorem dksX1_judge_2 : cX1_judge.data.toList.drop 48 = dktX1_judge_2 := dk_seg dksX1_judge_1 24 rfl rfl
theorem dksX1_judge_3 : cX1_judge.data.toList.drop 72 = dktX1_judge_3 := dk_seg dksX1_judge_2 24 rfl rfl
theorem dksX1_judge_4 : cX1_judge.data.toList.drop 95 = dktX1_judge_4 := dk_seg dksX1_judge_3 23 rfl rfl
abbrev cX1_isString : ByteArray := prog_1_method_33_code
def dkwX1_isString_3 : List UInt8 := [182, 0, 209, 132, 4, 1, 167, 255, 191, 42, 180, 0, 52, 182, 0, 224, 172]
abbrev dktX1_isString_3 : List UInt8 := dkwX1_isString_3 ++ []
def dkwX1_isString_2 : List UInt8 := [182, 0, 205, 42, 180, 0, 52, 180, 0, 208, 182, 0, 179, 154, 0, 5, 3, 172, 42, 180, 0, 52, 21, 5]
abbrev dktX1_isString_2 : List UInt8 := dkwX1_isString_2 ++ dktX1_isString_3
def dkwX1_isString_1 : List UInt8 := [20, 1, 26, 127, 136, 54, 5, 42, 21, 5, 182, 0, 142, 153, 0, 26, 42, 21, 5, 42, 180, 0, 52]
abbrev dktX1_isString_1 : List UInt8 := dkwX1_isString_1 ++ dktX1_isString_2
def dkwX1_isString_0 : List UInt8 := [42, 180, 0, 52, 182, 1, 1, 3, 54, 4, 21, 4, 27, 162, 0, 65, 32, 7, 21, 4, 104, 123]
abbrev dktX1_isString_0 : List UInt8 := dkwX1_isString_0 ++ dktX1_isString_1
theorem dksX1_isString_0 : cX1_isString.data.toList.drop 0 = dktX1_isString_0 := by decide +kernel
theorem dksX1_isString_1 : cX1_isString.data.toList.drop 22 = dktX1_isString_1 := dk_seg dksX1_isString_0 22 rfl rfl
theorem dksX1_isString_2 : cX1_isString.data.toList.drop 45 = dktX1_isString_2 := dk_seg dksX1_isString_1 23 rfl rfl
theorem dksX1_isString_3 : cX1_isString.data.toList.drop 69 = dktX1_isString_3 := dk_seg dksX1_isString_2 24 rfl rfl
abbrev cX1_firstStray : ByteArray := prog_1_method_34_code
def dkwX1_firstStray_1 : List UInt8 := [182, 1, 31, 154, 0, 5, 27, 172, 132, 1, 1, 167, 255, 224, 2, 172]
abbrev dktX1_firstStray_1 : List UInt8 := dkwX1_firstStray_1 ++ []
def dkwX1_firstStray_0 : List UInt8 := [3, 60, 27, 42, 182, 0, 193, 162, 0, 30, 42, 27, 182, 1, 28, 153, 0, 16, 42, 180, 0, 52, 27]
abbrev dktX1_firstStray_0 : List UInt8 := dkwX1_firstStray_0 ++ dktX1_firstStray_1
theorem dksX1_firstStray_0 : cX1_firstStray.data.toList.drop 0 = dktX1_firstStray_0 := by decide +kernel
theorem dksX1_firstStray_1 : cX1_firstStray.data.toList.drop 23 = dktX1_firstStray_1 := dk_seg dksX1_firstStray_0 23 rfl rfl
abbrev cX1_whence : ByteArray := prog_1_method_37_code
def dkwX1_whence_8 : List UInt8 := [5, 21, 7, 21, 8, 25, 4, 21, 7, 21, 8, 182, 1, 58, 21, 6, 100, 182, 1, 48, 172]
abbrev dktX1_whence_8 : List UInt8 := dkwX1_whence_8 ++ []
def dkwX1_whence_7 : List UInt8 := [54, 7, 21, 7, 156, 0, 7, 19, 1, 41, 172, 25, 4, 21, 7, 21, 6, 182, 1, 55, 54, 8, 42, 29]
abbrev dktX1_whence_7 : List UInt8 := dkwX1_whence_7 ++ dktX1_whence_8
def dkwX1_whence_6 : List UInt8 := [132, 7, 1, 167, 255, 175, 21, 5, 5, 161, 0, 13, 25, 4, 21, 6, 182, 1, 52, 167, 0, 4, 2]
abbrev dktX1_whence_6 : List UInt8 := dkwX1_whence_6 ++ dktX1_whence_7
def dkwX1_whence_5 : List UInt8 := [180, 0, 196, 21, 8, 100, 21, 8, 25, 4, 21, 7, 21, 8, 182, 1, 45, 21, 6, 100, 182, 1, 48, 172]
abbrev dktX1_whence_5 : List UInt8 := dkwX1_whence_5 ++ dktX1_whence_6
def dkwX1_whence_4 : List UInt8 := [54, 8, 21, 8, 158, 0, 42, 42, 29, 21, 7, 21, 7, 154, 0, 7, 3, 167, 0, 11, 25, 4]
abbrev dktX1_whence_4 : List UInt8 := dkwX1_whence_4 ++ dktX1_whence_5
def dkwX1_whence_3 : List UInt8 := [21, 7, 159, 0, 9, 21, 5, 6, 160, 0, 15, 25, 4, 21, 7, 21, 6, 182, 1, 42, 167, 0, 4, 3]
abbrev dktX1_whence_3 : List UInt8 := dkwX1_whence_3 ++ dktX1_whence_4
def dkwX1_whence_2 : List UInt8 := [28, 46, 54, 5, 42, 180, 0, 40, 28, 46, 54, 6, 3, 54, 7, 21, 7, 4, 163, 0, 81, 21, 5]
abbrev dktX1_whence_2 : List UInt8 := dkwX1_whence_2 ++ dktX1_whence_3
def dkwX1_whence_1 : List UInt8 := [42, 27, 182, 1, 20, 154, 0, 7, 19, 1, 41, 172, 42, 180, 0, 55, 27, 50, 58, 4, 42, 180, 0, 36]
abbrev dktX1_whence_1 : List UInt8 := dkwX1_whence_1 ++ dktX1_whence_2
def dkwX1_whence_0 : List UInt8 := [42, 180, 0, 112, 153, 0, 28, 42, 28, 182, 1, 28, 153, 0, 20, 29, 3, 6, 184, 0, 88, 153, 0, 11]
abbrev dktX1_whence_0 : List UInt8 := dkwX1_whence_0 ++ dktX1_whence_1
theorem dksX1_whence_0 : cX1_whence.data.toList.drop 0 = dktX1_whence_0 := by decide +kernel
theorem dksX1_whence_1 : cX1_whence.data.toList.drop 24 = dktX1_whence_1 := dk_seg dksX1_whence_0 24 rfl rfl
theorem dksX1_whence_2 : cX1_whence.data.toList.drop 48 = dktX1_whence_2 := dk_seg dksX1_whence_1 24 rfl rfl
theorem dksX1_whence_3 : cX1_whence.data.toList.drop 71 = dktX1_whence_3 := dk_seg dksX1_whence_2 23 rfl rfl
theorem dksX1_whence_4 : cX1_whence.data.toList.drop 95 = dktX1_whence_4 := dk_seg dksX1_whence_3 24 rfl rfl
theorem dksX1_whence_5 : cX1_whence.data.toList.drop 117 = dktX1_whence_5 := dk_seg dksX1_whence_4 22 rfl rfl
theorem dksX1_whence_6 : cX1_whence.data.toList.drop 141 = dktX1_whence_6 := dk_seg dksX1_whence_5 24 rfl rfl
theorem dksX1_whence_7 : cX1_whence.data.toList.drop 164 = dktX1_whence_7 := dk_seg dksX1_whence_6 23 rfl rfl
theorem dksX1_whence_8 : cX1_whence.data.toList.drop 188 = dktX1_whence_8 := dk_seg dksX1_whence_7 24 rfl rfl
abbrev cX1_told : ByteArray := prog_1_method_36_code
def dkwX1_told_1 : List UInt8 := [167, 0, 5, 21, 5, 172]
abbrev dktX1_told_1 : List UInt8 := dkwX1_told_1 ++ []
def dkwX1_told_0 : List UInt8 := [27, 154, 0, 7, 28, 167, 0, 24, 27, 4, 160, 0, 7, 29, 167, 0, 15, 27, 5, 160, 0, 8, 21, 4]
abbrev dktX1_told_0 : List UInt8 := dkwX1_told_0 ++ dktX1_told_1
theorem dksX1_told_0 : cX1_told.data.toList.drop 0 = dktX1_told_0 := by decide +kernel
theorem dksX1_told_1 : cX1_told.data.toList.drop 24 = dktX1_told_1 := dk_seg dksX1_told_0 24 rfl rfl
abbrev cX1_score : ByteArray := prog_1_method_38_code
def dkwX1_score_1 : List UInt8 := [20, 1, 61, 173]
abbrev dktX1_score_1 : List UInt8 := dkwX1_score_1 ++ []
def dkwX1_score_0 : List UInt8 := [42, 180, 0, 112, 158, 0, 20, 42, 27, 182, 1, 20, 153, 0, 12, 42, 180, 0, 62, 27, 47, 167, 0, 6]
abbrev dktX1_score_0 : List UInt8 := dkwX1_score_0 ++ dktX1_score_1
theorem dksX1_score_0 : cX1_score.data.toList.drop 0 = dktX1_score_0 := by decide +kernel
theorem dksX1_score_1 : cX1_score.data.toList.drop 24 = dktX1_score_1 := dk_seg dksX1_score_0 24 rfl rfl
abbrev cX1_rank : ByteArray := prog_1_method_39_code
def dkwX1_rank_1 : List UInt8 := [153, 0, 8, 16, 254, 167, 0, 17, 28, 153, 0, 12, 42, 180, 0, 59, 27, 46, 167, 0, 4, 2, 172]
abbrev dktX1_rank_1 : List UInt8 := dkwX1_rank_1 ++ []
def dkwX1_rank_0 : List UInt8 := [42, 180, 0, 112, 153, 0, 7, 27, 156, 0, 5, 2, 172, 42, 27, 182, 1, 20, 61, 42, 180, 1, 4]
abbrev dktX1_rank_0 : List UInt8 := dkwX1_rank_0 ++ dktX1_rank_1
theorem dksX1_rank_0 : cX1_rank.data.toList.drop 0 = dktX1_rank_0 := by decide +kernel
theorem dksX1_rank_1 : cX1_rank.data.toList.drop 23 = dktX1_rank_1 := dk_seg dksX1_rank_0 23 rfl rfl
abbrev cX1_ties : ByteArray := prog_1_method_40_code
def dkwX1_ties_3 : List UInt8 := [172]
abbrev dktX1_ties_3 : List UInt8 := dkwX1_ties_3 ++ []
def dkwX1_ties_2 : List UInt8 := [180, 0, 59, 3, 46, 47, 148, 154, 0, 7, 4, 167, 0, 4, 3, 96, 60, 132, 2, 1, 167, 255, 216, 27]
abbrev dktX1_ties_2 : List UInt8 := dkwX1_ties_2 ++ dktX1_ties_3
def dkwX1_ties_1 : List UInt8 := [60, 3, 61, 28, 42, 180, 0, 221, 162, 0, 38, 27, 42, 180, 0, 62, 28, 47, 42, 180, 0, 62, 42]
abbrev dktX1_ties_1 : List UInt8 := dkwX1_ties_1 ++ dktX1_ties_2
def dkwX1_ties_0 : List UInt8 := [42, 180, 0, 112, 154, 0, 5, 2, 172, 42, 182, 1, 17, 42, 180, 1, 4, 153, 0, 6, 16, 254, 172, 3]
abbrev dktX1_ties_0 : List UInt8 := dkwX1_ties_0 ++ dktX1_ties_1
theorem dksX1_ties_0 : cX1_ties.data.toList.drop 0 = dktX1_ties_0 := by decide +kernel
theorem dksX1_ties_1 : cX1_ties.data.toList.drop 24 = dktX1_ties_1 := dk_seg dksX1_ties_0 24 rfl rfl
theorem dksX1_ties_2 : cX1_ties.data.toList.drop 47 = dktX1_ties_2 := dk_seg dksX1_ties_1 23 rfl rfl
theorem dksX1_ties_3 : cX1_ties.data.toList.drop 71 = dktX1_ties_3 := dk_seg dksX1_ties_2 24 rfl rfl
abbrev cX1_has : ByteArray := prog_1_method_41_code
def dkwX1_has_4 : List UInt8 := [182, 0, 228, 167, 0, 8, 25, 4, 180, 0, 208, 172]
abbrev dktX1_has_4 : List UInt8 := dkwX1_has_4 ++ []
def dkwX1_has_3 : List UInt8 := [180, 0, 196, 4, 100, 104, 25, 4, 182, 0, 238, 100, 167, 0, 21, 28, 5, 160, 0, 11, 25, 4]
abbrev dktX1_has_3 : List UInt8 := dkwX1_has_3 ++ dktX1_has_4
def dkwX1_has_2 : List UInt8 := [27, 50, 58, 4, 28, 154, 0, 11, 25, 4, 182, 0, 238, 167, 0, 44, 28, 4, 160, 0, 21, 5, 25, 4]
abbrev dktX1_has_2 : List UInt8 := dkwX1_has_2 ++ dktX1_has_3
def dkwX1_has_1 : List UInt8 := [182, 1, 20, 62, 42, 180, 1, 4, 153, 0, 6, 16, 254, 172, 29, 154, 0, 5, 2, 172, 42, 180, 0, 55]
abbrev dktX1_has_1 : List UInt8 := dkwX1_has_1 ++ dktX1_has_2
def dkwX1_has_0 : List UInt8 := [42, 180, 0, 112, 153, 0, 16, 27, 155, 0, 12, 28, 3, 6, 184, 0, 88, 154, 0, 5, 2, 172, 42, 27]
abbrev dktX1_has_0 : List UInt8 := dkwX1_has_0 ++ dktX1_has_1
theorem dksX1_has_0 : cX1_has.data.toList.drop 0 = dktX1_has_0 := by decide +kernel
theorem dksX1_has_1 : cX1_has.data.toList.drop 24 = dktX1_has_1 := dk_seg dksX1_has_0 24 rfl rfl
theorem dksX1_has_2 : cX1_has.data.toList.drop 48 = dktX1_has_2 := dk_seg dksX1_has_1 24 rfl rfl
theorem dksX1_has_3 : cX1_has.data.toList.drop 72 = dktX1_has_3 := dk_seg dksX1_has_2 24 rfl rfl
theorem dksX1_has_4 : cX1_has.data.toList.drop 94 = dktX1_has_4 := dk_seg dksX1_has_3 22 rfl rfl
abbrev cX1_tree : ByteArray := prog_1_method_46_code
def dkwX1_tree_6 : List UInt8 := [167, 255, 208, 2, 172]
abbrev dktX1_tree_6 : List UInt8 := dkwX1_tree_6 ++ []
def dkwX1_tree_5 : List UInt8 := [160, 0, 11, 21, 5, 16, 11, 108, 167, 0, 10, 21, 5, 16, 11, 112, 4, 96, 172, 132, 5, 1]
abbrev dktX1_tree_5 : List UInt8 := dkwX1_tree_5 ++ dktX1_tree_6
def dkwX1_tree_4 : List UInt8 := [16, 22, 162, 0, 47, 21, 4, 158, 0, 42, 42, 32, 21, 5, 21, 4, 182, 1, 69, 153, 0, 24, 27, 4]
abbrev dktX1_tree_4 : List UInt8 := dkwX1_tree_4 ++ dktX1_tree_5
def dkwX1_tree_3 : List UInt8 := [167, 255, 237, 21, 4, 7, 160, 0, 6, 16, 254, 172, 27, 154, 0, 6, 21, 4, 172, 3, 54, 5, 21, 5]
abbrev dktX1_tree_3 : List UInt8 := dkwX1_tree_3 ++ dktX1_tree_4
def dkwX1_tree_2 : List UInt8 := [65, 3, 54, 4, 21, 4, 7, 162, 0, 19, 42, 32, 21, 4, 182, 1, 81, 154, 0, 9, 132, 4, 1]
abbrev dktX1_tree_2 : List UInt8 := dkwX1_tree_2 ++ dktX1_tree_3
def dkwX1_tree_1 : List UInt8 := [180, 1, 4, 154, 0, 10, 42, 180, 0, 221, 154, 0, 6, 16, 254, 172, 10, 42, 180, 0, 221, 121, 10, 101]
abbrev dktX1_tree_1 : List UInt8 := dkwX1_tree_1 ++ dktX1_tree_2
def dkwX1_tree_0 : List UInt8 := [42, 180, 0, 112, 153, 0, 12, 27, 3, 5, 184, 0, 88, 154, 0, 5, 2, 172, 42, 182, 1, 17, 42]
abbrev dktX1_tree_0 : List UInt8 := dkwX1_tree_0 ++ dktX1_tree_1
theorem dksX1_tree_0 : cX1_tree.data.toList.drop 0 = dktX1_tree_0 := by decide +kernel
theorem dksX1_tree_1 : cX1_tree.data.toList.drop 23 = dktX1_tree_1 := dk_seg dksX1_tree_0 23 rfl rfl
theorem dksX1_tree_2 : cX1_tree.data.toList.drop 47 = dktX1_tree_2 := dk_seg dksX1_tree_1 24 rfl rfl
theorem dksX1_tree_3 : cX1_tree.data.toList.drop 70 = dktX1_tree_3 := dk_seg dksX1_tree_2 23 rfl rfl
theorem dksX1_tree_4 : cX1_tree.data.toList.drop 94 = dktX1_tree_4 := dk_seg dksX1_tree_3 24 rfl rfl
theorem dksX1_tree_5 : cX1_tree.data.toList.drop 118 = dktX1_tree_5 := dk_seg dksX1_tree_4 24 rfl rfl
theorem dksX1_tree_6 : cX1_tree.data.toList.drop 140 = dktX1_tree_6 := dk_seg dksX1_tree_5 22 rfl rfl
abbrev cX1_leavesOne : ByteArray := prog_1_method_44_code
def dkwX1_leavesOne_1 : List UInt8 := [158, 0, 22, 42, 31, 21, 4, 29, 182, 1, 69, 153, 0, 5, 4, 172, 132, 4, 1, 167, 255, 229, 3, 172]
abbrev dktX1_leavesOne_1 : List UInt8 := dkwX1_leavesOne_1 ++ []
def dkwX1_leavesOne_0 : List UInt8 := [31, 31, 10, 101, 127, 9, 148, 154, 0, 5, 4, 172, 3, 54, 4, 21, 4, 16, 22, 162, 0, 26, 29]
abbrev dktX1_leavesOne_0 : List UInt8 := dkwX1_leavesOne_0 ++ dktX1_leavesOne_1
theorem dksX1_leavesOne_0 : cX1_leavesOne.data.toList.drop 0 = dktX1_leavesOne_0 := by decide +kernel
theorem dksX1_leavesOne_1 : cX1_leavesOne.data.toList.drop 23 = dktX1_leavesOne_1 := dk_seg dksX1_leavesOne_0 23 rfl rfl
abbrev cX1_parts1 : ByteArray := prog_1_method_45_code
def dkwX1_parts1_3 : List UInt8 := [55, 7, 167, 255, 199, 4, 172]
abbrev dktX1_parts1_3 : List UInt8 := dkwX1_parts1_3 ++ []
def dkwX1_parts1_2 : List UInt8 := [42, 22, 9, 21, 4, 4, 100, 182, 1, 81, 154, 0, 5, 3, 172, 22, 7, 22, 9, 20, 0, 184, 131, 127]
abbrev dktX1_parts1_2 : List UInt8 := dkwX1_parts1_2 ++ dktX1_parts1_3
def dkwX1_parts1_1 : List UInt8 := [42, 22, 7, 22, 7, 184, 1, 73, 21, 5, 21, 6, 182, 1, 77, 55, 9, 22, 9, 31, 148, 153, 0, 16]
abbrev dktX1_parts1_1 : List UInt8 := dkwX1_parts1_1 ++ dktX1_parts1_2
def dkwX1_parts1_0 : List UInt8 := [29, 16, 11, 108, 54, 5, 29, 16, 11, 112, 4, 96, 54, 6, 31, 55, 7, 22, 7, 9, 148, 153, 0, 56]
abbrev dktX1_parts1_0 : List UInt8 := dkwX1_parts1_0 ++ dktX1_parts1_1
theorem dksX1_parts1_0 : cX1_parts1.data.toList.drop 0 = dktX1_parts1_0 := by decide +kernel
theorem dksX1_parts1_1 : cX1_parts1.data.toList.drop 24 = dktX1_parts1_1 := dk_seg dksX1_parts1_0 24 rfl rfl
theorem dksX1_parts1_2 : cX1_parts1.data.toList.drop 48 = dktX1_parts1_2 := dk_seg dksX1_parts1_1 24 rfl rfl
theorem dksX1_parts1_3 : cX1_parts1.data.toList.drop 72 = dktX1_parts1_3 := dk_seg dksX1_parts1_2 24 rfl rfl
abbrev cX1_likeOf : ByteArray := prog_1_method_43_code
def dkwX1_likeOf_2 : List UInt8 := [160, 0, 12, 22, 6, 10, 21, 8, 121, 129, 55, 6, 132, 8, 1, 167, 255, 202, 22, 6, 173]
abbrev dktX1_likeOf_2 : List UInt8 := dkwX1_likeOf_2 ++ []
def dkwX1_likeOf_1 : List UInt8 := [154, 0, 34, 42, 21, 8, 21, 4, 21, 5, 182, 1, 66, 42, 29, 21, 4, 21, 5, 182, 1, 66]
abbrev dktX1_likeOf_1 : List UInt8 := dkwX1_likeOf_1 ++ dktX1_likeOf_2
def dkwX1_likeOf_0 : List UInt8 := [9, 55, 6, 3, 54, 8, 21, 8, 42, 180, 0, 221, 162, 0, 51, 31, 21, 8, 123, 10, 127, 10, 148]
abbrev dktX1_likeOf_0 : List UInt8 := dkwX1_likeOf_0 ++ dktX1_likeOf_1
theorem dksX1_likeOf_0 : cX1_likeOf.data.toList.drop 0 = dktX1_likeOf_0 := by decide +kernel
theorem dksX1_likeOf_1 : cX1_likeOf.data.toList.drop 23 = dktX1_likeOf_1 := dk_seg dksX1_likeOf_0 23 rfl rfl
theorem dksX1_likeOf_2 : cX1_likeOf.data.toList.drop 45 = dktX1_likeOf_2 := dk_seg dksX1_likeOf_1 22 rfl rfl
abbrev cX1_tells : ByteArray := prog_1_method_42_code
def dkwX1_tells_2 : List UInt8 := [25, 4, 180, 0, 196, 29, 100, 46, 100, 172]
abbrev dktX1_tells_2 : List UInt8 := dkwX1_tells_2 ++ []
def dkwX1_tells_1 : List UInt8 := [154, 0, 13, 25, 4, 180, 1, 63, 29, 46, 167, 0, 22, 25, 4, 182, 0, 203, 25, 4, 180, 1, 63]
abbrev dktX1_tells_1 : List UInt8 := dkwX1_tells_1 ++ dktX1_tells_2
def dkwX1_tells_0 : List UInt8 := [42, 180, 0, 55, 27, 50, 58, 4, 29, 25, 4, 180, 0, 196, 161, 0, 7, 2, 167, 0, 36, 28]
abbrev dktX1_tells_0 : List UInt8 := dkwX1_tells_0 ++ dktX1_tells_1
theorem dksX1_tells_0 : cX1_tells.data.toList.drop 0 = dktX1_tells_0 := by decide +kernel
theorem dksX1_tells_1 : cX1_tells.data.toList.drop 22 = dktX1_tells_1 := dk_seg dksX1_tells_0 22 rfl rfl
theorem dksX1_tells_2 : cX1_tells.data.toList.drop 45 = dktX1_tells_2 := dk_seg dksX1_tells_1 23 rfl rfl
abbrev cX1_plan : ByteArray := prog_1_method_47_code
def dkwX1_plan_6 : List UInt8 := [184, 1, 88, 62, 132, 4, 1, 167, 255, 180, 29, 172]
abbrev dktX1_plan_6 : List UInt8 := dkwX1_plan_6 ++ []
def dkwX1_plan_5 : List UInt8 := [21, 7, 104, 122, 16, 15, 126, 182, 1, 77, 55, 5, 132, 7, 1, 167, 255, 218, 29, 22, 5, 184, 1, 85]
abbrev dktX1_plan_5 : List UInt8 := dkwX1_plan_5 ++ dktX1_plan_6
def dkwX1_plan_4 : List UInt8 := [21, 7, 27, 162, 0, 38, 42, 22, 5, 21, 4, 28, 8, 21, 7, 104, 7, 96, 122, 4, 126, 28, 8]
abbrev dktX1_plan_4 : List UInt8 := dkwX1_plan_4 ++ dktX1_plan_5
def dkwX1_plan_3 : List UInt8 := [54, 4, 21, 4, 42, 180, 0, 221, 162, 0, 73, 10, 42, 180, 0, 221, 121, 10, 101, 55, 5, 3, 54, 7]
abbrev dktX1_plan_3 : List UInt8 := dkwX1_plan_3 ++ dktX1_plan_4
def dkwX1_plan_2 : List UInt8 := [132, 3, 1, 167, 255, 229, 42, 182, 1, 17, 42, 180, 1, 4, 153, 0, 6, 16, 254, 172, 3, 62, 3]
abbrev dktX1_plan_2 : List UInt8 := dkwX1_plan_2 ++ dktX1_plan_3
def dkwX1_plan_1 : List UInt8 := [162, 0, 28, 28, 8, 29, 104, 122, 16, 15, 126, 4, 16, 11, 184, 0, 88, 154, 0, 5, 2, 172]
abbrev dktX1_plan_1 : List UInt8 := dkwX1_plan_1 ++ dktX1_plan_2
def dkwX1_plan_0 : List UInt8 := [42, 180, 0, 112, 153, 0, 12, 27, 3, 6, 184, 0, 88, 154, 0, 5, 2, 172, 3, 62, 29, 27]
abbrev dktX1_plan_0 : List UInt8 := dkwX1_plan_0 ++ dktX1_plan_1
theorem dksX1_plan_0 : cX1_plan.data.toList.drop 0 = dktX1_plan_0 := by decide +kernel
theorem dksX1_plan_1 : cX1_plan.data.toList.drop 22 = dktX1_plan_1 := dk_seg dksX1_plan_0 22 rfl rfl
theorem dksX1_plan_2 : cX1_plan.data.toList.drop 44 = dktX1_plan_2 := dk_seg dksX1_plan_1 22 rfl rfl
theorem dksX1_plan_3 : cX1_plan.data.toList.drop 67 = dktX1_plan_3 := dk_seg dksX1_plan_2 23 rfl rfl
theorem dksX1_plan_4 : cX1_plan.data.toList.drop 91 = dktX1_plan_4 := dk_seg dksX1_plan_3 24 rfl rfl
theorem dksX1_plan_5 : cX1_plan.data.toList.drop 114 = dktX1_plan_5 := dk_seg dksX1_plan_4 23 rfl rfl
theorem dksX1_plan_6 : cX1_plan.data.toList.drop 138 = dktX1_plan_6 := dk_seg dksX1_plan_5 24 rfl rfl
abbrev cX1_alike : ByteArray := prog_1_method_49_code
def dkwX1_alike_3 : List UInt8 := [182, 1, 91, 156, 0, 7, 4, 167, 0, 4, 3, 96, 62, 132, 4, 1, 167, 255, 210, 29, 172]
abbrev dktX1_alike_3 : List UInt8 := dkwX1_alike_3 ++ []
def dkwX1_alike_2 : List UInt8 := [162, 0, 43, 29, 21, 4, 27, 159, 0, 27, 42, 42, 180, 0, 55, 21, 4, 50, 42, 180, 0, 55, 27, 50]
abbrev dktX1_alike_2 : List UInt8 := dkwX1_alike_2 ++ dktX1_alike_3
def dkwX1_alike_1 : List UInt8 := [153, 0, 6, 16, 254, 172, 28, 154, 0, 5, 2, 172, 3, 62, 3, 54, 4, 21, 4, 42, 180, 0, 221]
abbrev dktX1_alike_1 : List UInt8 := dkwX1_alike_1 ++ dktX1_alike_2
def dkwX1_alike_0 : List UInt8 := [42, 180, 0, 112, 153, 0, 7, 27, 156, 0, 5, 2, 172, 42, 27, 182, 1, 20, 61, 42, 180, 1, 4]
abbrev dktX1_alike_0 : List UInt8 := dkwX1_alike_0 ++ dktX1_alike_1
theorem dksX1_alike_0 : cX1_alike.data.toList.drop 0 = dktX1_alike_0 := by decide +kernel
theorem dksX1_alike_1 : cX1_alike.data.toList.drop 23 = dktX1_alike_1 := dk_seg dksX1_alike_0 23 rfl rfl
theorem dksX1_alike_2 : cX1_alike.data.toList.drop 46 = dktX1_alike_2 := dk_seg dksX1_alike_1 23 rfl rfl
theorem dksX1_alike_3 : cX1_alike.data.toList.drop 70 = dktX1_alike_3 := dk_seg dksX1_alike_2 24 rfl rfl
abbrev cX1_placeOf : ByteArray := prog_1_method_48_code
def dkwX1_placeOf_3 : List UInt8 := [29, 172, 132, 3, 1, 167, 255, 182, 2, 172]
abbrev dktX1_placeOf_3 : List UInt8 := dkwX1_placeOf_3 ++ []
def dkwX1_placeOf_2 : List UInt8 := [180, 1, 23, 29, 46, 182, 0, 149, 42, 180, 0, 24, 44, 180, 1, 23, 29, 46, 182, 0, 149, 159, 0, 5]
abbrev dktX1_placeOf_2 : List UInt8 := dkwX1_placeOf_2 ++ dktX1_placeOf_3
def dkwX1_placeOf_1 : List UInt8 := [2, 172, 29, 43, 180, 0, 196, 162, 0, 40, 29, 44, 180, 0, 196, 162, 0, 32, 42, 180, 0, 24, 43]
abbrev dktX1_placeOf_1 : List UInt8 := dkwX1_placeOf_1 ++ dktX1_placeOf_2
def dkwX1_placeOf_0 : List UInt8 := [3, 62, 29, 16, 12, 162, 0, 74, 29, 43, 180, 0, 196, 161, 0, 13, 29, 44, 180, 0, 196, 161, 0, 5]
abbrev dktX1_placeOf_0 : List UInt8 := dkwX1_placeOf_0 ++ dktX1_placeOf_1
theorem dksX1_placeOf_0 : cX1_placeOf.data.toList.drop 0 = dktX1_placeOf_0 := by decide +kernel
theorem dksX1_placeOf_1 : cX1_placeOf.data.toList.drop 24 = dktX1_placeOf_1 := dk_seg dksX1_placeOf_0 24 rfl rfl
theorem dksX1_placeOf_2 : cX1_placeOf.data.toList.drop 47 = dktX1_placeOf_2 := dk_seg dksX1_placeOf_1 23 rfl rfl
theorem dksX1_placeOf_3 : cX1_placeOf.data.toList.drop 71 = dktX1_placeOf_3 := dk_seg dksX1_placeOf_2 24 rfl rfl
abbrev cX1_parts : ByteArray := prog_1_method_50_code
def dkwX1_parts_1 : List UInt8 := [42, 180, 0, 55, 27, 50, 42, 180, 0, 55, 28, 50, 182, 1, 91, 167, 0, 5, 16, 254, 172]
abbrev dktX1_parts_1 : List UInt8 := dkwX1_parts_1 ++ []
def dkwX1_parts_0 : List UInt8 := [42, 180, 0, 112, 158, 0, 38, 42, 27, 182, 1, 20, 153, 0, 30, 42, 28, 182, 1, 20, 153, 0, 22, 42]
abbrev dktX1_parts_0 : List UInt8 := dkwX1_parts_0 ++ dktX1_parts_1
theorem dksX1_parts_0 : cX1_parts.data.toList.drop 0 = dktX1_parts_0 := by decide +kernel
theorem dksX1_parts_1 : cX1_parts.data.toList.drop 24 = dktX1_parts_1 := dk_seg dksX1_parts_0 24 rfl rfl
abbrev cX1_shifts : ByteArray := prog_1_method_52_code
def dkwX1_shifts_5 : List UInt8 := [167, 255, 197, 132, 4, 1, 167, 255, 156, 29, 172]
abbrev dktX1_shifts_5 : List UInt8 := dkwX1_shifts_5 ++ []
def dkwX1_shifts_4 : List UInt8 := [42, 180, 0, 40, 21, 4, 46, 100, 28, 160, 0, 7, 4, 167, 0, 4, 3, 96, 62, 132, 5, 1]
abbrev dktX1_shifts_4 : List UInt8 := dkwX1_shifts_4 ++ dktX1_shifts_5
def dkwX1_shifts_3 : List UInt8 := [182, 1, 28, 153, 0, 37, 42, 180, 0, 36, 21, 5, 46, 27, 160, 0, 26, 42, 180, 0, 40, 21, 5, 46]
abbrev dktX1_shifts_3 : List UInt8 := dkwX1_shifts_3 ++ dktX1_shifts_4
def dkwX1_shifts_2 : List UInt8 := [46, 27, 159, 0, 6, 167, 0, 68, 3, 54, 5, 21, 5, 42, 182, 0, 193, 162, 0, 56, 29, 42, 21, 5]
abbrev dktX1_shifts_2 : List UInt8 := dkwX1_shifts_2 ++ dktX1_shifts_3
def dkwX1_shifts_1 : List UInt8 := [21, 4, 42, 182, 0, 193, 162, 0, 97, 42, 21, 4, 182, 1, 28, 153, 0, 82, 42, 180, 0, 36, 21, 4]
abbrev dktX1_shifts_1 : List UInt8 := dkwX1_shifts_1 ++ dktX1_shifts_2
def dkwX1_shifts_0 : List UInt8 := [27, 3, 6, 184, 0, 88, 153, 0, 10, 28, 184, 1, 95, 154, 0, 5, 2, 172, 3, 62, 3, 54, 4]
abbrev dktX1_shifts_0 : List UInt8 := dkwX1_shifts_0 ++ dktX1_shifts_1
theorem dksX1_shifts_0 : cX1_shifts.data.toList.drop 0 = dktX1_shifts_0 := by decide +kernel
theorem dksX1_shifts_1 : cX1_shifts.data.toList.drop 23 = dktX1_shifts_1 := dk_seg dksX1_shifts_0 23 rfl rfl
theorem dksX1_shifts_2 : cX1_shifts.data.toList.drop 47 = dktX1_shifts_2 := dk_seg dksX1_shifts_1 24 rfl rfl
theorem dksX1_shifts_3 : cX1_shifts.data.toList.drop 71 = dktX1_shifts_3 := dk_seg dksX1_shifts_2 24 rfl rfl
theorem dksX1_shifts_4 : cX1_shifts.data.toList.drop 95 = dktX1_shifts_4 := dk_seg dksX1_shifts_3 24 rfl rfl
theorem dksX1_shifts_5 : cX1_shifts.data.toList.drop 117 = dktX1_shifts_5 := dk_seg dksX1_shifts_4 22 rfl rfl
abbrev cX1_isShift : ByteArray := prog_1_method_51_code
def dkwX1_isShift_0 : List UInt8 := [26, 4, 16, 99, 184, 0, 88, 172]
abbrev dktX1_isShift_0 : List UInt8 := dkwX1_isShift_0 ++ []
theorem dksX1_isShift_0 : cX1_isShift.data.toList.drop 0 = dktX1_isShift_0 := by decide +kernel
abbrev cX1_shift : ByteArray := prog_1_method_53_code
def dkwX1_shift_2 : List UInt8 := [132, 4, 1, 167, 255, 213, 28, 172]
abbrev dktX1_shift_2 : List UInt8 := dkwX1_shift_2 ++ []
def dkwX1_shift_1 : List UInt8 := [27, 21, 4, 182, 1, 98, 54, 5, 21, 5, 29, 163, 0, 6, 167, 0, 9, 21, 5, 62, 21, 4, 61]
abbrev dktX1_shift_1 : List UInt8 := dkwX1_shift_1 ++ dktX1_shift_2
def dkwX1_shift_0 : List UInt8 := [2, 61, 3, 62, 4, 54, 4, 21, 4, 16, 99, 163, 0, 42, 27, 3, 6, 184, 0, 88, 153, 0, 33, 42]
abbrev dktX1_shift_0 : List UInt8 := dkwX1_shift_0 ++ dktX1_shift_1
theorem dksX1_shift_0 : cX1_shift.data.toList.drop 0 = dktX1_shift_0 := by decide +kernel
theorem dksX1_shift_1 : cX1_shift.data.toList.drop 24 = dktX1_shift_1 := dk_seg dksX1_shift_0 24 rfl rfl
theorem dksX1_shift_2 : cX1_shift.data.toList.drop 47 = dktX1_shift_2 := dk_seg dksX1_shift_1 23 rfl rfl
abbrev cX1_world : ByteArray := prog_1_method_55_code
def dkwX1_world_7 : List UInt8 := [167, 255, 149, 21, 4, 156, 0, 8, 21, 6, 167, 0, 5, 16, 254, 172]
abbrev dktX1_world_7 : List UInt8 := dkwX1_world_7 ++ []
def dkwX1_world_6 : List UInt8 := [25, 5, 180, 0, 196, 4, 100, 112, 4, 96, 182, 1, 45, 21, 8, 96, 172, 132, 6, 1, 132, 7, 1]
abbrev dktX1_world_6 : List UInt8 := dkwX1_world_6 ++ dktX1_world_7
def dkwX1_world_5 : List UInt8 := [162, 0, 7, 3, 167, 0, 4, 4, 54, 9, 21, 6, 21, 4, 160, 0, 26, 25, 5, 21, 9, 21, 7]
abbrev dktX1_world_5 : List UInt8 := dkwX1_world_5 ++ dktX1_world_6
def dkwX1_world_4 : List UInt8 := [182, 1, 113, 42, 180, 0, 24, 180, 1, 116, 100, 54, 8, 21, 7, 25, 5, 180, 0, 196, 4, 100]
abbrev dktX1_world_4 : List UInt8 := dkwX1_world_4 ++ dktX1_world_5
def dkwX1_world_3 : List UInt8 := [16, 10, 182, 1, 113, 29, 161, 0, 6, 167, 0, 80, 42, 5, 42, 180, 0, 24, 180, 1, 116, 104, 4, 96]
abbrev dktX1_world_3 : List UInt8 := dkwX1_world_3 ++ dktX1_world_4
def dkwX1_world_2 : List UInt8 := [50, 58, 5, 3, 54, 6, 3, 54, 7, 21, 7, 5, 25, 5, 180, 0, 196, 4, 100, 104, 162, 0, 99, 42]
abbrev dktX1_world_2 : List UInt8 := dkwX1_world_2 ++ dktX1_world_3
def dkwX1_world_1 : List UInt8 := [161, 0, 11, 42, 27, 182, 1, 20, 154, 0, 5, 2, 172, 42, 28, 133, 181, 1, 101, 42, 180, 0, 55, 27]
abbrev dktX1_world_1 : List UInt8 := dkwX1_world_1 ++ dktX1_world_2
def dkwX1_world_0 : List UInt8 := [42, 180, 0, 112, 153, 0, 31, 28, 155, 0, 27, 29, 3, 16, 10, 184, 0, 88, 153, 0, 17, 21, 4, 2]
abbrev dktX1_world_0 : List UInt8 := dkwX1_world_0 ++ dktX1_world_1
theorem dksX1_world_0 : cX1_world.data.toList.drop 0 = dktX1_world_0 := by decide +kernel
theorem dksX1_world_1 : cX1_world.data.toList.drop 24 = dktX1_world_1 := dk_seg dksX1_world_0 24 rfl rfl
theorem dksX1_world_2 : cX1_world.data.toList.drop 48 = dktX1_world_2 := dk_seg dksX1_world_1 24 rfl rfl
theorem dksX1_world_3 : cX1_world.data.toList.drop 72 = dktX1_world_3 := dk_seg dksX1_world_2 24 rfl rfl
theorem dksX1_world_4 : cX1_world.data.toList.drop 96 = dktX1_world_4 := dk_seg dksX1_world_3 24 rfl rfl
theorem dksX1_world_5 : cX1_world.data.toList.drop 118 = dktX1_world_5 := dk_seg dksX1_world_4 22 rfl rfl
theorem dksX1_world_6 : cX1_world.data.toList.drop 141 = dktX1_world_6 := dk_seg dksX1_world_5 23 rfl rfl
theorem dksX1_world_7 : cX1_world.data.toList.drop 164 = dktX1_world_7 := dk_seg dksX1_world_6 23 rfl rfl
abbrev cX1_draw : ByteArray := prog_1_method_54_code
def dkwX1_draw_1 : List UInt8 := [20, 1, 111, 109, 27, 133, 113, 136, 172]
abbrev dktX1_draw_1 : List UInt8 := dkwX1_draw_1 ++ []
def dkwX1_draw_0 : List UInt8 := [42, 42, 180, 1, 101, 20, 1, 105, 105, 20, 1, 107, 97, 20, 1, 109, 127, 181, 1, 101, 42, 180, 1, 101]
abbrev dktX1_draw_0 : List UInt8 := dkwX1_draw_0 ++ dktX1_draw_1
theorem dksX1_draw_0 : cX1_draw.data.toList.drop 0 = dktX1_draw_0 := by decide +kernel
theorem dksX1_draw_1 : cX1_draw.data.toList.drop 24 = dktX1_draw_1 := dk_seg dksX1_draw_0 24 rfl rfl
abbrev cX1_keep : ByteArray := prog_1_method_56_code
def dkwX1_keep_3 : List UInt8 := [172]
abbrev dktX1_keep_3 : List UInt8 := dkwX1_keep_3 ++ []
def dkwX1_keep_2 : List UInt8 := [16, 24, 184, 1, 131, 42, 180, 0, 40, 3, 42, 180, 0, 75, 3, 16, 24, 184, 1, 131, 42, 180, 0, 115]
abbrev dktX1_keep_2 : List UInt8 := dkwX1_keep_2 ++ dktX1_keep_3
def dkwX1_keep_1 : List UInt8 := [180, 0, 118, 181, 1, 125, 42, 42, 180, 0, 33, 181, 1, 128, 42, 180, 0, 36, 3, 42, 180, 0, 72, 3]
abbrev dktX1_keep_1 : List UInt8 := dkwX1_keep_1 ++ dktX1_keep_2
def dkwX1_keep_0 : List UInt8 := [42, 4, 181, 0, 121, 42, 42, 180, 0, 112, 181, 1, 119, 42, 42, 180, 0, 115, 181, 1, 122, 42, 42]
abbrev dktX1_keep_0 : List UInt8 := dkwX1_keep_0 ++ dktX1_keep_1
theorem dksX1_keep_0 : cX1_keep.data.toList.drop 0 = dktX1_keep_0 := by decide +kernel
theorem dksX1_keep_1 : cX1_keep.data.toList.drop 23 = dktX1_keep_1 := dk_seg dksX1_keep_0 23 rfl rfl
theorem dksX1_keep_2 : cX1_keep.data.toList.drop 47 = dktX1_keep_2 := dk_seg dksX1_keep_1 24 rfl rfl
theorem dksX1_keep_3 : cX1_keep.data.toList.drop 71 = dktX1_keep_3 := dk_seg dksX1_keep_2 24 rfl rfl
abbrev cX1_back : ByteArray := prog_1_method_57_code
def dkwX1_back_3 : List UInt8 := [184, 1, 131, 42, 3, 181, 0, 125, 42, 180, 0, 115, 172]
abbrev dktX1_back_3 : List UInt8 := dkwX1_back_3 ++ []
def dkwX1_back_2 : List UInt8 := [42, 180, 0, 36, 3, 16, 24, 184, 1, 131, 42, 180, 0, 75, 3, 42, 180, 0, 40, 3, 16, 24]
abbrev dktX1_back_2 : List UInt8 := dkwX1_back_2 ++ dktX1_back_3
def dkwX1_back_1 : List UInt8 := [181, 0, 115, 42, 42, 180, 1, 125, 181, 0, 118, 42, 42, 180, 1, 128, 181, 0, 33, 42, 180, 0, 72, 3]
abbrev dktX1_back_1 : List UInt8 := dkwX1_back_1 ++ dktX1_back_2
def dkwX1_back_0 : List UInt8 := [42, 180, 0, 121, 154, 0, 5, 2, 172, 42, 42, 180, 1, 119, 181, 0, 112, 42, 42, 180, 1, 122]
abbrev dktX1_back_0 : List UInt8 := dkwX1_back_0 ++ dktX1_back_1
theorem dksX1_back_0 : cX1_back.data.toList.drop 0 = dktX1_back_0 := by decide +kernel
theorem dksX1_back_1 : cX1_back.data.toList.drop 22 = dktX1_back_1 := dk_seg dksX1_back_0 22 rfl rfl
theorem dksX1_back_2 : cX1_back.data.toList.drop 46 = dktX1_back_2 := dk_seg dksX1_back_1 24 rfl rfl
theorem dksX1_back_3 : cX1_back.data.toList.drop 68 = dktX1_back_3 := dk_seg dksX1_back_2 22 rfl rfl
abbrev cX1_count : ByteArray := prog_1_method_58_code
def dkwX1_count_6 : List UInt8 := [180, 0, 112, 172, 42, 180, 0, 24, 180, 1, 154, 153, 0, 7, 4, 167, 0, 4, 3, 172, 2, 172]
abbrev dktX1_count_6 : List UInt8 := dkwX1_count_6 ++ []
def dkwX1_count_5 : List UInt8 := [182, 1, 28, 153, 0, 7, 4, 167, 0, 4, 3, 96, 61, 132, 3, 1, 167, 255, 229, 28, 172, 42]
abbrev dktX1_count_5 : List UInt8 := dkwX1_count_5 ++ dktX1_count_6
def dkwX1_count_4 : List UInt8 := [180, 0, 115, 172, 42, 182, 0, 193, 172, 3, 62, 29, 42, 180, 0, 115, 162, 0, 25, 28, 42, 29]
abbrev dktX1_count_4 : List UInt8 := dkwX1_count_4 ++ dktX1_count_5
def dkwX1_count_3 : List UInt8 := [180, 0, 24, 182, 0, 138, 172, 42, 180, 0, 24, 180, 1, 148, 172, 42, 180, 0, 24, 180, 1, 151, 172, 42]
abbrev dktX1_count_3 : List UInt8 := dkwX1_count_3 ++ dktX1_count_4
def dkwX1_count_2 : List UInt8 := [42, 180, 0, 24, 180, 1, 137, 182, 1, 141, 172, 42, 180, 0, 24, 180, 1, 145, 182, 1, 141, 172, 42]
abbrev dktX1_count_2 : List UInt8 := dkwX1_count_2 ++ dktX1_count_3
def dkwX1_count_1 : List UInt8 := [170, 0, 0, 0, 164, 0, 0, 0, 0, 0, 0, 0, 9, 0, 0, 0, 53, 0, 0, 0, 64, 0, 0, 0, 75, 0, 0, 0, 83, 0, 0, 0, 91, 0, 0, 0, 99, 0, 0, 0, 104, 0, 0, 0, 109, 0, 0, 0, 143, 0, 0, 0, 148]
abbrev dktX1_count_1 : List UInt8 := dkwX1_count_1 ++ dktX1_count_2
def dkwX1_count_0 : List UInt8 := [3, 61, 27]
abbrev dktX1_count_0 : List UInt8 := dkwX1_count_0 ++ dktX1_count_1
theorem dksX1_count_0 : cX1_count.data.toList.drop 0 = dktX1_count_0 := by decide +kernel
theorem dksX1_count_1 : cX1_count.data.toList.drop 3 = dktX1_count_1 := dk_seg dksX1_count_0 3 rfl rfl
theorem dksX1_count_2 : cX1_count.data.toList.drop 56 = dktX1_count_2 := dk_seg dksX1_count_1 53 rfl rfl
theorem dksX1_count_3 : cX1_count.data.toList.drop 79 = dktX1_count_3 := dk_seg dksX1_count_2 23 rfl rfl
theorem dksX1_count_4 : cX1_count.data.toList.drop 103 = dktX1_count_4 := dk_seg dksX1_count_3 24 rfl rfl
theorem dksX1_count_5 : cX1_count.data.toList.drop 125 = dktX1_count_5 := dk_seg dksX1_count_4 22 rfl rfl
theorem dksX1_count_6 : cX1_count.data.toList.drop 147 = dktX1_count_6 := dk_seg dksX1_count_5 22 rfl rfl
abbrev cX1_look : ByteArray := prog_1_method_10_code
def dkwX1_look_3 : List UInt8 := [182, 0, 155, 172, 187, 0, 158, 89, 183, 0, 160, 191]
abbrev dktX1_look_3 : List UInt8 := dkwX1_look_3 ++ []
def dkwX1_look_2 : List UInt8 := [42, 180, 0, 24, 27, 182, 0, 149, 172, 42, 180, 0, 24, 27, 182, 0, 152, 172, 42, 180, 0, 24, 27]
abbrev dktX1_look_2 : List UInt8 := dkwX1_look_2 ++ dktX1_look_3
def dkwX1_look_1 : List UInt8 := [170, 0, 0, 0, 0, 0, 54, 0, 0, 0, 0, 0, 0, 0, 2, 0, 0, 0, 27, 0, 0, 0, 36, 0, 0, 0, 45]
abbrev dktX1_look_1 : List UInt8 := dkwX1_look_1 ++ dktX1_look_2
def dkwX1_look_0 : List UInt8 := [42, 27, 182, 0, 142, 154, 0, 11, 187, 0, 146, 89, 183, 0, 148, 191, 28]
abbrev dktX1_look_0 : List UInt8 := dkwX1_look_0 ++ dktX1_look_1
theorem dksX1_look_0 : cX1_look.data.toList.drop 0 = dktX1_look_0 := by decide +kernel
theorem dksX1_look_1 : cX1_look.data.toList.drop 17 = dktX1_look_1 := dk_seg dksX1_look_0 17 rfl rfl
theorem dksX1_look_2 : cX1_look.data.toList.drop 44 = dktX1_look_2 := dk_seg dksX1_look_1 27 rfl rfl
theorem dksX1_look_3 : cX1_look.data.toList.drop 67 = dktX1_look_3 := dk_seg dksX1_look_2 23 rfl rfl
abbrev cX2_init : ByteArray := prog_3_method_1_code
def dkwX2_init_2 : List UInt8 := [181, 0, 28, 177]
abbrev dktX2_init_2 : List UInt8 := dkwX2_init_2 ++ []
def dkwX2_init_1 : List UInt8 := [181, 0, 18, 42, 187, 0, 9, 89, 183, 0, 11, 181, 0, 21, 42, 16, 6, 188, 10, 181, 0, 24, 42, 4]
abbrev dktX2_init_1 : List UInt8 := dkwX2_init_1 ++ dktX2_init_2
def dkwX2_init_0 : List UInt8 := [42, 183, 0, 3, 42, 187, 0, 9, 89, 183, 0, 11, 181, 0, 12, 42, 187, 0, 9, 89, 183, 0, 11]
abbrev dktX2_init_0 : List UInt8 := dkwX2_init_0 ++ dktX2_init_1
theorem dksX2_init_0 : cX2_init.data.toList.drop 0 = dktX2_init_0 := by decide +kernel
theorem dksX2_init_1 : cX2_init.data.toList.drop 23 = dktX2_init_1 := dk_seg dksX2_init_0 23 rfl rfl
theorem dksX2_init_2 : cX2_init.data.toList.drop 47 = dktX2_init_2 := dk_seg dksX2_init_1 24 rfl rfl
abbrev cX2_many : ByteArray := prog_3_method_4_code
def dkwX2_many_0 : List UInt8 := [42, 180, 0, 12, 182, 0, 32, 42, 180, 0, 21, 182, 0, 32, 96, 172]
abbrev dktX2_many_0 : List UInt8 := dkwX2_many_0 ++ []
theorem dksX2_many_0 : cX2_many.data.toList.drop 0 = dktX2_many_0 := by decide +kernel
abbrev cX2_weight : ByteArray := prog_3_method_5_code
def dkwX2_weight_2 : List UInt8 := [192, 0, 51, 180, 0, 53, 172]
abbrev dktX2_weight_2 : List UInt8 := dkwX2_weight_2 ++ []
def dkwX2_weight_1 : List UInt8 := [180, 0, 48, 167, 0, 25, 42, 180, 0, 21, 27, 42, 180, 0, 12, 182, 0, 32, 100, 182, 0, 36]
abbrev dktX2_weight_1 : List UInt8 := dkwX2_weight_1 ++ dktX2_weight_2
def dkwX2_weight_0 : List UInt8 := [27, 42, 180, 0, 12, 182, 0, 32, 162, 0, 20, 42, 180, 0, 12, 27, 182, 0, 36, 192, 0, 40]
abbrev dktX2_weight_0 : List UInt8 := dkwX2_weight_0 ++ dktX2_weight_1
theorem dksX2_weight_0 : cX2_weight.data.toList.drop 0 = dktX2_weight_0 := by decide +kernel
theorem dksX2_weight_1 : cX2_weight.data.toList.drop 22 = dktX2_weight_1 := dk_seg dksX2_weight_0 22 rfl rfl
theorem dksX2_weight_2 : cX2_weight.data.toList.drop 44 = dktX2_weight_2 := dk_seg dksX2_weight_1 22 rfl rfl
abbrev cX2_sticks : ByteArray := prog_3_method_8_code
def dkwX2_sticks_1 : List UInt8 := [167, 0, 4, 3, 172]
abbrev dktX2_sticks_1 : List UInt8 := dkwX2_sticks_1 ++ []
def dkwX2_sticks_0 : List UInt8 := [42, 180, 0, 24, 42, 28, 182, 0, 60, 46, 42, 27, 182, 0, 60, 184, 0, 64, 154, 0, 7, 4]
abbrev dktX2_sticks_0 : List UInt8 := dkwX2_sticks_0 ++ dktX2_sticks_1
theorem dksX2_sticks_0 : cX2_sticks.data.toList.drop 0 = dktX2_sticks_0 := by decide +kernel
theorem dksX2_sticks_1 : cX2_sticks.data.toList.drop 22 = dktX2_sticks_1 := dk_seg dksX2_sticks_0 22 rfl rfl
abbrev cX2_beadOf : ByteArray := prog_3_method_6_code
def dkwX2_beadOf_1 : List UInt8 := [182, 0, 32, 100, 182, 0, 36, 192, 0, 51, 180, 0, 54, 172]
abbrev dktX2_beadOf_1 : List UInt8 := dkwX2_beadOf_1 ++ []
def dkwX2_beadOf_0 : List UInt8 := [27, 42, 180, 0, 12, 182, 0, 32, 162, 0, 7, 27, 167, 0, 25, 42, 180, 0, 21, 27, 42, 180, 0, 12]
abbrev dktX2_beadOf_0 : List UInt8 := dkwX2_beadOf_0 ++ dktX2_beadOf_1
theorem dksX2_beadOf_0 : cX2_beadOf.data.toList.drop 0 = dktX2_beadOf_0 := by decide +kernel
theorem dksX2_beadOf_1 : cX2_beadOf.data.toList.drop 24 = dktX2_beadOf_1 := dk_seg dksX2_beadOf_0 24 rfl rfl
abbrev cX2_dustOf : ByteArray := prog_3_method_7_code
def dkwX2_dustOf_1 : List UInt8 := [182, 0, 32, 100, 182, 0, 36, 192, 0, 51, 180, 0, 57, 172]
abbrev dktX2_dustOf_1 : List UInt8 := dkwX2_dustOf_1 ++ []
def dkwX2_dustOf_0 : List UInt8 := [27, 42, 180, 0, 12, 182, 0, 32, 162, 0, 7, 2, 167, 0, 25, 42, 180, 0, 21, 27, 42, 180, 0, 12]
abbrev dktX2_dustOf_0 : List UInt8 := dkwX2_dustOf_0 ++ dktX2_dustOf_1
theorem dksX2_dustOf_0 : cX2_dustOf.data.toList.drop 0 = dktX2_dustOf_0 := by decide +kernel
theorem dksX2_dustOf_1 : cX2_dustOf.data.toList.drop 24 = dktX2_dustOf_1 := dk_seg dksX2_dustOf_0 24 rfl rfl
abbrev cX2_bead : ByteArray := prog_3_method_2_code
def dkwX2_bead_1 : List UInt8 := [180, 0, 42, 27, 160, 0, 5, 28, 172, 132, 2, 1, 167, 255, 222, 2, 172]
abbrev dktX2_bead_1 : List UInt8 := dkwX2_bead_1 ++ []
def dkwX2_bead_0 : List UInt8 := [3, 61, 28, 42, 180, 0, 12, 182, 0, 32, 162, 0, 29, 42, 180, 0, 12, 28, 182, 0, 36, 192, 0, 40]
abbrev dktX2_bead_0 : List UInt8 := dkwX2_bead_0 ++ dktX2_bead_1
theorem dksX2_bead_0 : cX2_bead.data.toList.drop 0 = dktX2_bead_0 := by decide +kernel
theorem dksX2_bead_1 : cX2_bead.data.toList.drop 24 = dktX2_bead_1 := dk_seg dksX2_bead_0 24 rfl rfl
abbrev cX2_dust : ByteArray := prog_3_method_3_code
def dkwX2_dust_1 : List UInt8 := [180, 0, 47, 27, 160, 0, 5, 28, 172, 132, 2, 1, 167, 255, 222, 2, 172]
abbrev dktX2_dust_1 : List UInt8 := dkwX2_dust_1 ++ []
def dkwX2_dust_0 : List UInt8 := [3, 61, 28, 42, 180, 0, 18, 182, 0, 32, 162, 0, 29, 42, 180, 0, 18, 28, 182, 0, 36, 192, 0, 45]
abbrev dktX2_dust_0 : List UInt8 := dkwX2_dust_0 ++ dktX2_dust_1
theorem dksX2_dust_0 : cX2_dust.data.toList.drop 0 = dktX2_dust_0 := by decide +kernel
theorem dksX2_dust_1 : cX2_dust.data.toList.drop 24 = dktX2_dust_1 := dk_seg dksX2_dust_0 24 rfl rfl
abbrev cX3_init : ByteArray := prog_14_method_1_code
def dkwX3_init_1 : List UInt8 := [181, 0, 19, 177]
abbrev dktX3_init_1 : List UInt8 := dkwX3_init_1 ++ []
def dkwX3_init_0 : List UInt8 := [42, 43, 181, 0, 3, 42, 183, 0, 9, 42, 16, 12, 188, 10, 181, 0, 15, 42, 16, 13, 188, 10]
abbrev dktX3_init_0 : List UInt8 := dkwX3_init_0 ++ dktX3_init_1
theorem dksX3_init_0 : cX3_init.data.toList.drop 0 = dktX3_init_0 := by decide +kernel
theorem dksX3_init_1 : cX3_init.data.toList.drop 22 = dktX3_init_1 := dk_seg dksX3_init_0 22 rfl rfl
abbrev cX3_clear : ByteArray := prog_14_method_2_code
def dkwX3_clear_0 : List UInt8 := [42, 3, 181, 0, 22, 42, 3, 181, 0, 26, 177]
abbrev dktX3_clear_0 : List UInt8 := dkwX3_clear_0 ++ []
theorem dksX3_clear_0 : cX3_clear.data.toList.drop 0 = dktX3_clear_0 := by decide +kernel
abbrev cX3_weight : ByteArray := prog_14_method_5_code
def dkwX3_weight_0 : List UInt8 := [42, 180, 0, 19, 42, 180, 0, 22, 46, 172]
abbrev dktX3_weight_0 : List UInt8 := dkwX3_weight_0 ++ []
theorem dksX3_weight_0 : cX3_weight.data.toList.drop 0 = dktX3_weight_0 := by decide +kernel
abbrev cX3_last : ByteArray := prog_14_method_6_code
def dkwX3_last_0 : List UInt8 := [42, 180, 0, 22, 154, 0, 8, 16, 12, 167, 0, 14, 42, 180, 0, 15, 42, 180, 0, 22, 4, 100, 46, 172]
abbrev dktX3_last_0 : List UInt8 := dkwX3_last_0 ++ []
theorem dksX3_last_0 : cX3_last.data.toList.drop 0 = dktX3_last_0 := by decide +kernel
abbrev cX3_add : ByteArray := prog_14_method_3_code
def dkwX3_add_3 : List UInt8 := [4, 96, 181, 0, 22, 177]
abbrev dktX3_add_3 : List UInt8 := dkwX3_add_3 ++ []
def dkwX3_add_2 : List UInt8 := [180, 0, 3, 27, 182, 0, 39, 153, 0, 7, 4, 167, 0, 4, 3, 96, 181, 0, 26, 42, 89, 180, 0, 22]
abbrev dktX3_add_2 : List UInt8 := dkwX3_add_2 ++ dktX3_add_3
def dkwX3_add_1 : List UInt8 := [42, 180, 0, 22, 46, 42, 180, 0, 3, 180, 0, 29, 27, 182, 0, 33, 96, 79, 42, 89, 180, 0, 26, 42]
abbrev dktX3_add_1 : List UInt8 := dkwX3_add_1 ++ dktX3_add_2
def dkwX3_add_0 : List UInt8 := [42, 180, 0, 15, 42, 180, 0, 22, 27, 79, 42, 180, 0, 19, 42, 180, 0, 22, 4, 96, 42, 180, 0, 19]
abbrev dktX3_add_0 : List UInt8 := dkwX3_add_0 ++ dktX3_add_1
theorem dksX3_add_0 : cX3_add.data.toList.drop 0 = dktX3_add_0 := by decide +kernel
theorem dksX3_add_1 : cX3_add.data.toList.drop 24 = dktX3_add_1 := dk_seg dksX3_add_0 24 rfl rfl
theorem dksX3_add_2 : cX3_add.data.toList.drop 48 = dktX3_add_2 := dk_seg dksX3_add_1 24 rfl rfl
theorem dksX3_add_3 : cX3_add.data.toList.drop 72 = dktX3_add_3 := dk_seg dksX3_add_2 24 rfl rfl
abbrev cX3_isClosed : ByteArray := prog_14_method_7_code
def dkwX3_isClosed_2 : List UInt8 := [182, 0, 47, 153, 0, 7, 4, 167, 0, 4, 3, 172]
abbrev dktX3_isClosed_2 : List UInt8 := dkwX3_isClosed_2 ++ []
def dkwX3_isClosed_1 : List UInt8 := [180, 0, 3, 180, 0, 29, 42, 180, 0, 15, 3, 46, 42, 180, 0, 15, 42, 180, 0, 22, 4, 100, 46]
abbrev dktX3_isClosed_1 : List UInt8 := dkwX3_isClosed_1 ++ dktX3_isClosed_2
def dkwX3_isClosed_0 : List UInt8 := [42, 180, 0, 3, 180, 0, 29, 180, 0, 43, 153, 0, 41, 42, 180, 0, 22, 5, 161, 0, 33, 42]
abbrev dktX3_isClosed_0 : List UInt8 := dkwX3_isClosed_0 ++ dktX3_isClosed_1
theorem dksX3_isClosed_0 : cX3_isClosed.data.toList.drop 0 = dktX3_isClosed_0 := by decide +kernel
theorem dksX3_isClosed_1 : cX3_isClosed.data.toList.drop 22 = dktX3_isClosed_1 := dk_seg dksX3_isClosed_0 22 rfl rfl
theorem dksX3_isClosed_2 : cX3_isClosed.data.toList.drop 45 = dktX3_isClosed_2 := dk_seg dksX3_isClosed_1 23 rfl rfl
abbrev cX3_stray : ByteArray := prog_14_method_14_code
def dkwX3_stray_2 : List UInt8 := [27, 172]
abbrev dktX3_stray_2 : List UInt8 := dkwX3_stray_2 ++ []
def dkwX3_stray_1 : List UInt8 := [153, 0, 15, 42, 28, 182, 0, 96, 154, 0, 7, 4, 167, 0, 4, 3, 96, 60, 132, 2, 1, 167, 255, 215]
abbrev dktX3_stray_1 : List UInt8 := dkwX3_stray_1 ++ dktX3_stray_2
def dkwX3_stray_0 : List UInt8 := [3, 60, 3, 61, 28, 42, 180, 0, 3, 182, 0, 90, 162, 0, 36, 27, 42, 180, 0, 3, 28, 182, 0, 93]
abbrev dktX3_stray_0 : List UInt8 := dkwX3_stray_0 ++ dktX3_stray_1
theorem dksX3_stray_0 : cX3_stray.data.toList.drop 0 = dktX3_stray_0 := by decide +kernel
theorem dksX3_stray_1 : cX3_stray.data.toList.drop 24 = dktX3_stray_1 := dk_seg dksX3_stray_0 24 rfl rfl
theorem dksX3_stray_2 : cX3_stray.data.toList.drop 48 = dktX3_stray_2 := dk_seg dksX3_stray_1 24 rfl rfl
abbrev cX3_explains : ByteArray := prog_14_method_13_code
def dkwX3_explains_3 : List UInt8 := [167, 0, 4, 3, 172]
abbrev dktX3_explains_3 : List UInt8 := dkwX3_explains_3 ++ []
def dkwX3_explains_2 : List UInt8 := [42, 4, 29, 182, 0, 84, 157, 0, 16, 28, 5, 161, 0, 15, 42, 29, 182, 0, 87, 155, 0, 7, 4]
abbrev dktX3_explains_2 : List UInt8 := dkwX3_explains_2 ++ dktX3_explains_3
def dkwX3_explains_1 : List UInt8 := [28, 6, 160, 0, 12, 42, 3, 29, 182, 0, 84, 157, 0, 35, 28, 4, 159, 0, 8, 28, 6, 160, 0, 12]
abbrev dktX3_explains_1 : List UInt8 := dkwX3_explains_1 ++ dktX3_explains_2
def dkwX3_explains_0 : List UInt8 := [42, 180, 0, 3, 180, 0, 78, 27, 46, 61, 42, 180, 0, 3, 180, 0, 81, 27, 46, 62, 28, 153, 0, 8]
abbrev dktX3_explains_0 : List UInt8 := dkwX3_explains_0 ++ dktX3_explains_1
theorem dksX3_explains_0 : cX3_explains.data.toList.drop 0 = dktX3_explains_0 := by decide +kernel
theorem dksX3_explains_1 : cX3_explains.data.toList.drop 24 = dktX3_explains_1 := dk_seg dksX3_explains_0 24 rfl rfl
theorem dksX3_explains_2 : cX3_explains.data.toList.drop 48 = dktX3_explains_2 := dk_seg dksX3_explains_1 24 rfl rfl
theorem dksX3_explains_3 : cX3_explains.data.toList.drop 71 = dktX3_explains_3 := dk_seg dksX3_explains_2 23 rfl rfl
abbrev cX3_sideOf : ByteArray := prog_14_method_10_code
def dkwX3_sideOf_3 : List UInt8 := [167, 255, 192, 29, 172]
abbrev dktX3_sideOf_3 : List UInt8 := dkwX3_sideOf_3 ++ []
def dkwX3_sideOf_2 : List UInt8 := [21, 5, 42, 27, 29, 182, 0, 60, 28, 100, 184, 0, 64, 162, 0, 6, 21, 4, 62, 132, 4, 1]
abbrev dktX3_sideOf_2 : List UInt8 := dkwX3_sideOf_2 ++ dktX3_sideOf_3
def dkwX3_sideOf_1 : List UInt8 := [184, 0, 64, 54, 5, 21, 5, 42, 180, 0, 3, 180, 0, 29, 180, 0, 69, 163, 0, 26, 29, 153, 0, 19]
abbrev dktX3_sideOf_1 : List UInt8 := dkwX3_sideOf_1 ++ dktX3_sideOf_2
def dkwX3_sideOf_0 : List UInt8 := [3, 62, 4, 54, 4, 21, 4, 42, 180, 0, 22, 162, 0, 61, 42, 27, 21, 4, 182, 0, 60, 28, 100]
abbrev dktX3_sideOf_0 : List UInt8 := dkwX3_sideOf_0 ++ dktX3_sideOf_1
theorem dksX3_sideOf_0 : cX3_sideOf.data.toList.drop 0 = dktX3_sideOf_0 := by decide +kernel
theorem dksX3_sideOf_1 : cX3_sideOf.data.toList.drop 23 = dktX3_sideOf_1 := dk_seg dksX3_sideOf_0 23 rfl rfl
theorem dksX3_sideOf_2 : cX3_sideOf.data.toList.drop 47 = dktX3_sideOf_2 := dk_seg dksX3_sideOf_1 24 rfl rfl
theorem dksX3_sideOf_3 : cX3_sideOf.data.toList.drop 69 = dktX3_sideOf_3 := dk_seg dksX3_sideOf_2 22 rfl rfl
abbrev cX3_side : ByteArray := prog_14_method_8_code
def dkwX3_side_2 : List UInt8 := [180, 0, 57, 96, 172]
abbrev dktX3_side_2 : List UInt8 := dkwX3_side_2 ++ []
def dkwX3_side_1 : List UInt8 := [42, 182, 0, 54, 42, 180, 0, 19, 42, 180, 0, 22, 28, 100, 46, 100, 42, 180, 0, 3, 180, 0, 29]
abbrev dktX3_side_1 : List UInt8 := dkwX3_side_1 ++ dktX3_side_2
def dkwX3_side_0 : List UInt8 := [27, 154, 0, 23, 42, 180, 0, 19, 28, 46, 42, 180, 0, 3, 180, 0, 29, 180, 0, 51, 96, 167, 0, 30]
abbrev dktX3_side_0 : List UInt8 := dkwX3_side_0 ++ dktX3_side_1
theorem dksX3_side_0 : cX3_side.data.toList.drop 0 = dktX3_side_0 := by decide +kernel
theorem dksX3_side_1 : cX3_side.data.toList.drop 24 = dktX3_side_1 := dk_seg dksX3_side_0 24 rfl rfl
theorem dksX3_side_2 : cX3_side.data.toList.drop 47 = dktX3_side_2 := dk_seg dksX3_side_1 23 rfl rfl
abbrev cX3_beginOf : ByteArray := prog_14_method_11_code
def dkwX3_beginOf_1 : List UInt8 := [167, 255, 234, 2, 172]
abbrev dktX3_beginOf_1 : List UInt8 := dkwX3_beginOf_1 ++ []
def dkwX3_beginOf_0 : List UInt8 := [3, 61, 28, 42, 180, 0, 22, 162, 0, 20, 42, 28, 27, 182, 0, 72, 158, 0, 5, 28, 172, 132, 2, 1]
abbrev dktX3_beginOf_0 : List UInt8 := dkwX3_beginOf_0 ++ dktX3_beginOf_1
theorem dksX3_beginOf_0 : cX3_beginOf.data.toList.drop 0 = dktX3_beginOf_0 := by decide +kernel
theorem dksX3_beginOf_1 : cX3_beginOf.data.toList.drop 24 = dktX3_beginOf_1 := dk_seg dksX3_beginOf_0 24 rfl rfl
abbrev cX3_manyOf : ByteArray := prog_14_method_12_code
def dkwX3_manyOf_2 : List UInt8 := [180, 0, 29, 180, 0, 69, 163, 0, 5, 29, 172, 132, 3, 1, 167, 255, 196, 3, 172]
abbrev dktX3_manyOf_2 : List UInt8 := dkwX3_manyOf_2 ++ []
def dkwX3_manyOf_1 : List UInt8 := [29, 96, 42, 180, 0, 22, 163, 0, 35, 42, 27, 29, 182, 0, 75, 28, 100, 184, 0, 64, 42, 180, 0, 3]
abbrev dktX3_manyOf_1 : List UInt8 := dkwX3_manyOf_1 ++ dktX3_manyOf_2
def dkwX3_manyOf_0 : List UInt8 := [4, 62, 29, 42, 180, 0, 22, 162, 0, 58, 42, 180, 0, 3, 180, 0, 29, 180, 0, 43, 154, 0, 13, 27]
abbrev dktX3_manyOf_0 : List UInt8 := dkwX3_manyOf_0 ++ dktX3_manyOf_1
theorem dksX3_manyOf_0 : cX3_manyOf.data.toList.drop 0 = dktX3_manyOf_0 := by decide +kernel
theorem dksX3_manyOf_1 : cX3_manyOf.data.toList.drop 24 = dktX3_manyOf_1 := dk_seg dksX3_manyOf_0 24 rfl rfl
theorem dksX3_manyOf_2 : cX3_manyOf.data.toList.drop 48 = dktX3_manyOf_2 := dk_seg dksX3_manyOf_1 24 rfl rfl
abbrev cX3_middle : ByteArray := prog_14_method_9_code
def dkwX3_middle_2 : List UInt8 := [100, 46, 96, 172]
abbrev dktX3_middle_2 : List UInt8 := dkwX3_middle_2 ++ []
def dkwX3_middle_1 : List UInt8 := [100, 167, 0, 26, 42, 182, 0, 54, 42, 180, 0, 19, 27, 46, 100, 42, 180, 0, 19, 29, 42, 180, 0, 22]
abbrev dktX3_middle_1 : List UInt8 := dkwX3_middle_1 ++ dktX3_middle_2
def dkwX3_middle_0 : List UInt8 := [27, 28, 96, 62, 29, 42, 180, 0, 22, 163, 0, 19, 42, 180, 0, 19, 29, 46, 42, 180, 0, 19, 27, 46]
abbrev dktX3_middle_0 : List UInt8 := dkwX3_middle_0 ++ dktX3_middle_1
theorem dksX3_middle_0 : cX3_middle.data.toList.drop 0 = dktX3_middle_0 := by decide +kernel
theorem dksX3_middle_1 : cX3_middle.data.toList.drop 24 = dktX3_middle_1 := dk_seg dksX3_middle_0 24 rfl rfl
theorem dksX3_middle_2 : cX3_middle.data.toList.drop 48 = dktX3_middle_2 := dk_seg dksX3_middle_1 24 rfl rfl
abbrev cX3_copy : ByteArray := prog_14_method_17_code
def dkwX3_copy_1 : List UInt8 := [132, 2, 1, 167, 255, 235, 177]
abbrev dktX3_copy_1 : List UInt8 := dkwX3_copy_1 ++ []
def dkwX3_copy_0 : List UInt8 := [42, 182, 0, 102, 3, 61, 28, 43, 180, 0, 22, 162, 0, 19, 42, 43, 180, 0, 15, 28, 46, 182, 0, 105]
abbrev dktX3_copy_0 : List UInt8 := dkwX3_copy_0 ++ dktX3_copy_1
theorem dksX3_copy_0 : cX3_copy.data.toList.drop 0 = dktX3_copy_0 := by decide +kernel
theorem dksX3_copy_1 : cX3_copy.data.toList.drop 24 = dktX3_copy_1 := dk_seg dksX3_copy_0 24 rfl rfl
abbrev cX3_drop : ByteArray := prog_14_method_4_code
def dkwX3_drop_1 : List UInt8 := [180, 0, 22, 46, 182, 0, 39, 153, 0, 7, 4, 167, 0, 4, 3, 100, 181, 0, 26, 177]
abbrev dktX3_drop_1 : List UInt8 := dkwX3_drop_1 ++ []
def dkwX3_drop_0 : List UInt8 := [42, 89, 180, 0, 22, 4, 100, 181, 0, 22, 42, 89, 180, 0, 26, 42, 180, 0, 3, 42, 180, 0, 15, 42]
abbrev dktX3_drop_0 : List UInt8 := dkwX3_drop_0 ++ dktX3_drop_1
theorem dksX3_drop_0 : cX3_drop.data.toList.drop 0 = dktX3_drop_0 := by decide +kernel
theorem dksX3_drop_1 : cX3_drop.data.toList.drop 24 = dktX3_drop_1 := dk_seg dksX3_drop_0 24 rfl rfl
abbrev cX3_came : ByteArray := prog_14_method_15_code
def dkwX3_came_2 : List UInt8 := [132, 2, 1, 167, 255, 210, 27, 172]
abbrev dktX3_came_2 : List UInt8 := dkwX3_came_2 ++ []
def dkwX3_came_1 : List UInt8 := [29, 182, 0, 60, 182, 0, 99, 153, 0, 7, 4, 167, 0, 4, 3, 96, 60, 132, 3, 1, 167, 255, 223]
abbrev dktX3_came_1 : List UInt8 := dkwX3_came_1 ++ dktX3_came_2
def dkwX3_came_0 : List UInt8 := [3, 60, 3, 61, 28, 4, 163, 0, 47, 4, 62, 29, 42, 180, 0, 22, 162, 0, 31, 27, 42, 28, 42, 28]
abbrev dktX3_came_0 : List UInt8 := dkwX3_came_0 ++ dktX3_came_1
theorem dksX3_came_0 : cX3_came.data.toList.drop 0 = dktX3_came_0 := by decide +kernel
theorem dksX3_came_1 : cX3_came.data.toList.drop 24 = dktX3_came_1 := dk_seg dksX3_came_0 24 rfl rfl
theorem dksX3_came_2 : cX3_came.data.toList.drop 47 = dktX3_came_2 := dk_seg dksX3_came_1 23 rfl rfl
abbrev cX3_isThere : ByteArray := prog_14_method_16_code
def dkwX3_isThere_3 : List UInt8 := [180, 0, 69, 163, 0, 5, 4, 172, 132, 3, 1, 167, 255, 176, 3, 172]
abbrev dktX3_isThere_3 : List UInt8 := dkwX3_isThere_3 ++ []
def dkwX3_isThere_2 : List UInt8 := [160, 0, 32, 42, 180, 0, 3, 180, 0, 81, 29, 46, 28, 100, 184, 0, 64, 42, 180, 0, 3, 180, 0, 29]
abbrev dktX3_isThere_2 : List UInt8 := dkwX3_isThere_2 ++ dktX3_isThere_3
def dkwX3_isThere_1 : List UInt8 := [42, 180, 0, 3, 180, 0, 78, 29, 46, 27, 159, 0, 16, 42, 180, 0, 3, 180, 0, 78, 29, 46, 6]
abbrev dktX3_isThere_1 : List UInt8 := dkwX3_isThere_1 ++ dktX3_isThere_2
def dkwX3_isThere_0 : List UInt8 := [3, 62, 29, 42, 180, 0, 3, 182, 0, 90, 162, 0, 75, 42, 180, 0, 3, 29, 182, 0, 93, 153, 0, 58]
abbrev dktX3_isThere_0 : List UInt8 := dkwX3_isThere_0 ++ dktX3_isThere_1
theorem dksX3_isThere_0 : cX3_isThere.data.toList.drop 0 = dktX3_isThere_0 := by decide +kernel
theorem dksX3_isThere_1 : cX3_isThere.data.toList.drop 24 = dktX3_isThere_1 := dk_seg dksX3_isThere_0 24 rfl rfl
theorem dksX3_isThere_2 : cX3_isThere.data.toList.drop 47 = dktX3_isThere_2 := dk_seg dksX3_isThere_1 23 rfl rfl
theorem dksX3_isThere_3 : cX3_isThere.data.toList.drop 71 = dktX3_isThere_3 := dk_seg dksX3_isThere_2 24 rfl rfl
abbrev cX4_init : ByteArray := prog_15_method_1_code
def dkwX4_init_0 : List UInt8 := [42, 183, 0, 3, 42, 16, 6, 188, 11, 181, 0, 9, 177]
abbrev dktX4_init_0 : List UInt8 := dkwX4_init_0 ++ []
theorem dksX4_init_0 : cX4_init.data.toList.drop 0 = dktX4_init_0 := by decide +kernel
abbrev cX4_inBound : ByteArray := prog_15_method_2_code
def dkwX4_inBound_1 : List UInt8 := [181, 0, 15, 42, 180, 0, 15, 153, 0, 7, 9, 167, 0, 4, 31, 173]
abbrev dktX4_inBound_1 : List UInt8 := dkwX4_inBound_1 ++ []
def dkwX4_inBound_0 : List UInt8 := [42, 42, 180, 0, 15, 154, 0, 14, 31, 184, 0, 19, 20, 0, 25, 148, 158, 0, 7, 4, 167, 0, 4, 3]
abbrev dktX4_inBound_0 : List UInt8 := dkwX4_inBound_0 ++ dktX4_inBound_1
theorem dksX4_inBound_0 : cX4_inBound.data.toList.drop 0 = dktX4_inBound_0 := by decide +kernel
theorem dksX4_inBound_1 : cX4_inBound.data.toList.drop 24 = dktX4_inBound_1 := dk_seg dksX4_inBound_0 24 rfl rfl
abbrev cX5_init : ByteArray := prog_19_method_1_code
def dkwX5_init_14 : List UInt8 := [188, 11, 181, 0, 100, 42, 17, 5, 40, 188, 10, 181, 0, 103, 177]
abbrev dktX5_init_14 : List UInt8 := dkwX5_init_14 ++ []
def dkwX5_init_13 : List UInt8 := [188, 10, 181, 0, 91, 42, 16, 6, 188, 11, 181, 0, 94, 42, 16, 64, 188, 11, 181, 0, 97, 42, 16, 60]
abbrev dktX5_init_13 : List UInt8 := dkwX5_init_13 ++ dktX5_init_14
def dkwX5_init_12 : List UInt8 := [181, 0, 82, 42, 16, 12, 188, 10, 181, 0, 85, 42, 17, 2, 208, 188, 10, 181, 0, 88, 42, 16, 60]
abbrev dktX5_init_12 : List UInt8 := dkwX5_init_12 ++ dktX5_init_13
def dkwX5_init_11 : List UInt8 := [181, 0, 72, 42, 16, 24, 188, 10, 181, 0, 76, 42, 16, 24, 188, 10, 181, 0, 79, 42, 16, 24, 188, 4]
abbrev dktX5_init_11 : List UInt8 := dkwX5_init_11 ++ dktX5_init_12
def dkwX5_init_10 : List UInt8 := [181, 0, 63, 42, 16, 24, 188, 10, 181, 0, 66, 42, 16, 24, 188, 10, 181, 0, 69, 42, 16, 24, 188, 4]
abbrev dktX5_init_10 : List UInt8 := dkwX5_init_10 ++ dktX5_init_11
def dkwX5_init_9 : List UInt8 := [188, 10, 181, 0, 52, 42, 16, 12, 188, 10, 181, 0, 55, 42, 18, 58, 188, 11, 181, 0, 59, 42, 2]
abbrev dktX5_init_9 : List UInt8 := dkwX5_init_9 ++ dktX5_init_10
def dkwX5_init_8 : List UInt8 := [17, 0, 128, 188, 10, 181, 0, 42, 42, 2, 181, 0, 45, 42, 16, 12, 188, 10, 181, 0, 49, 42, 16, 12]
abbrev dktX5_init_8 : List UInt8 := dkwX5_init_8 ++ dktX5_init_9
def dkwX5_init_7 : List UInt8 := [188, 10, 181, 0, 33, 42, 16, 12, 188, 10, 181, 0, 36, 42, 17, 0, 128, 188, 10, 181, 0, 39, 42]
abbrev dktX5_init_7 : List UInt8 := dkwX5_init_7 ++ dktX5_init_8
def dkwX5_init_6 : List UInt8 := [188, 10, 181, 0, 24, 42, 16, 6, 188, 10, 181, 0, 27, 42, 16, 24, 188, 10, 181, 0, 30, 42, 16, 24]
abbrev dktX5_init_6 : List UInt8 := dkwX5_init_6 ++ dktX5_init_7
def dkwX5_init_5 : List UInt8 := [3, 79, 181, 0, 15, 42, 16, 12, 188, 10, 181, 0, 18, 42, 16, 12, 188, 10, 181, 0, 21, 42, 16, 6]
abbrev dktX5_init_5 : List UInt8 := dkwX5_init_5 ++ dktX5_init_6
def dkwX5_init_4 : List UInt8 := [79, 89, 16, 17, 3, 79, 89, 16, 18, 3, 79, 89, 16, 19, 4, 79, 89, 16, 20, 3, 79, 89, 16, 21]
abbrev dktX5_init_4 : List UInt8 := dkwX5_init_4 ++ dktX5_init_5
def dkwX5_init_3 : List UInt8 := [89, 16, 12, 3, 79, 89, 16, 13, 3, 79, 89, 16, 14, 3, 79, 89, 16, 15, 3, 79, 89, 16, 16, 3]
abbrev dktX5_init_3 : List UInt8 := dkwX5_init_3 ++ dktX5_init_4
def dkwX5_init_2 : List UInt8 := [16, 7, 4, 79, 89, 16, 8, 3, 79, 89, 16, 9, 3, 79, 89, 16, 10, 3, 79, 89, 16, 11, 3, 79]
abbrev dktX5_init_2 : List UInt8 := dkwX5_init_2 ++ dktX5_init_3
def dkwX5_init_1 : List UInt8 := [3, 79, 89, 5, 3, 79, 89, 6, 3, 79, 89, 7, 3, 79, 89, 8, 3, 79, 89, 16, 6, 3, 79, 89]
abbrev dktX5_init_1 : List UInt8 := dkwX5_init_1 ++ dktX5_init_2
def dkwX5_init_0 : List UInt8 := [42, 183, 0, 5, 42, 17, 2, 88, 188, 10, 181, 0, 11, 42, 16, 22, 188, 10, 89, 3, 3, 79, 89, 4]
abbrev dktX5_init_0 : List UInt8 := dkwX5_init_0 ++ dktX5_init_1
theorem dksX5_init_0 : cX5_init.data.toList.drop 0 = dktX5_init_0 := by decide +kernel
theorem dksX5_init_1 : cX5_init.data.toList.drop 24 = dktX5_init_1 := dk_seg dksX5_init_0 24 rfl rfl
theorem dksX5_init_2 : cX5_init.data.toList.drop 48 = dktX5_init_2 := dk_seg dksX5_init_1 24 rfl rfl
theorem dksX5_init_3 : cX5_init.data.toList.drop 72 = dktX5_init_3 := dk_seg dksX5_init_2 24 rfl rfl
theorem dksX5_init_4 : cX5_init.data.toList.drop 96 = dktX5_init_4 := dk_seg dksX5_init_3 24 rfl rfl
theorem dksX5_init_5 : cX5_init.data.toList.drop 120 = dktX5_init_5 := dk_seg dksX5_init_4 24 rfl rfl
theorem dksX5_init_6 : cX5_init.data.toList.drop 144 = dktX5_init_6 := dk_seg dksX5_init_5 24 rfl rfl
theorem dksX5_init_7 : cX5_init.data.toList.drop 168 = dktX5_init_7 := dk_seg dksX5_init_6 24 rfl rfl
theorem dksX5_init_8 : cX5_init.data.toList.drop 191 = dktX5_init_8 := dk_seg dksX5_init_7 23 rfl rfl
theorem dksX5_init_9 : cX5_init.data.toList.drop 215 = dktX5_init_9 := dk_seg dksX5_init_8 24 rfl rfl
theorem dksX5_init_10 : cX5_init.data.toList.drop 238 = dktX5_init_10 := dk_seg dksX5_init_9 23 rfl rfl
theorem dksX5_init_11 : cX5_init.data.toList.drop 262 = dktX5_init_11 := dk_seg dksX5_init_10 24 rfl rfl
theorem dksX5_init_12 : cX5_init.data.toList.drop 286 = dktX5_init_12 := dk_seg dksX5_init_11 24 rfl rfl
theorem dksX5_init_13 : cX5_init.data.toList.drop 309 = dktX5_init_13 := dk_seg dksX5_init_12 23 rfl rfl
theorem dksX5_init_14 : cX5_init.data.toList.drop 333 = dktX5_init_14 := dk_seg dksX5_init_13 24 rfl rfl
abbrev cX5_thrown : ByteArray := prog_19_method_2_code
abbrev cX5_feed : ByteArray := prog_19_method_3_code
def dkwX5_feed_5 : List UInt8 := [181, 0, 109, 42, 180, 0, 109, 172]
abbrev dktX5_feed_5 : List UInt8 := dkwX5_feed_5 ++ []
def dkwX5_feed_4 : List UInt8 := [112, 104, 100, 122, 17, 0, 255, 126, 79, 132, 6, 1, 167, 255, 169, 42, 89, 180, 0, 109, 16, 20, 96]
abbrev dktX5_feed_4 : List UInt8 := dkwX5_feed_4 ++ dktX5_feed_5
def dkwX5_feed_3 : List UInt8 := [21, 5, 54, 7, 42, 180, 0, 11, 42, 180, 0, 109, 21, 6, 96, 21, 7, 16, 24, 16, 8, 21, 6, 7]
abbrev dktX5_feed_3 : List UInt8 := dkwX5_feed_3 ++ dktX5_feed_4
def dkwX5_feed_2 : List UInt8 := [21, 6, 16, 12, 162, 0, 7, 29, 167, 0, 17, 21, 6, 16, 16, 162, 0, 8, 21, 4, 167, 0, 5]
abbrev dktX5_feed_2 : List UInt8 := dkwX5_feed_2 ++ dktX5_feed_3
def dkwX5_feed_1 : List UInt8 := [162, 0, 86, 21, 6, 7, 162, 0, 7, 27, 167, 0, 39, 21, 6, 16, 8, 162, 0, 7, 28, 167, 0, 28]
abbrev dktX5_feed_1 : List UInt8 := dkwX5_feed_1 ++ dktX5_feed_2
def dkwX5_feed_0 : List UInt8 := [42, 3, 181, 0, 106, 42, 180, 0, 109, 17, 2, 68, 164, 0, 5, 2, 172, 3, 54, 6, 21, 6, 16, 20]
abbrev dktX5_feed_0 : List UInt8 := dkwX5_feed_0 ++ dktX5_feed_1
theorem dksX5_feed_0 : cX5_feed.data.toList.drop 0 = dktX5_feed_0 := by decide +kernel
theorem dksX5_feed_1 : cX5_feed.data.toList.drop 24 = dktX5_feed_1 := dk_seg dksX5_feed_0 24 rfl rfl
theorem dksX5_feed_2 : cX5_feed.data.toList.drop 48 = dktX5_feed_2 := dk_seg dksX5_feed_1 24 rfl rfl
theorem dksX5_feed_3 : cX5_feed.data.toList.drop 71 = dktX5_feed_3 := dk_seg dksX5_feed_2 23 rfl rfl
theorem dksX5_feed_4 : cX5_feed.data.toList.drop 95 = dktX5_feed_4 := dk_seg dksX5_feed_3 24 rfl rfl
theorem dksX5_feed_5 : cX5_feed.data.toList.drop 118 = dktX5_feed_5 := dk_seg dksX5_feed_4 23 rfl rfl
abbrev cX5_text : ByteArray := prog_19_method_36_code
def dkwX5_text_10 : List UInt8 := [181, 0, 63, 42, 3, 181, 1, 19, 42, 180, 0, 210, 172]
abbrev dktX5_text_10 : List UInt8 := dkwX5_text_10 ++ []
def dkwX5_text_9 : List UInt8 := [42, 180, 0, 42, 184, 1, 6, 42, 182, 1, 10, 42, 3, 181, 1, 13, 42, 3, 181, 1, 16, 42, 2]
abbrev dktX5_text_9 : List UInt8 := dkwX5_text_9 ++ dktX5_text_10
def dkwX5_text_8 : List UInt8 := [184, 1, 6, 42, 180, 0, 33, 184, 1, 6, 42, 180, 0, 36, 184, 1, 6, 42, 180, 0, 39, 184, 1, 6]
abbrev dktX5_text_8 : List UInt8 := dkwX5_text_8 ++ dktX5_text_9
def dkwX5_text_7 : List UInt8 := [180, 0, 21, 184, 1, 6, 42, 180, 0, 24, 184, 1, 6, 42, 180, 0, 27, 184, 1, 6, 42, 180, 0, 30]
abbrev dktX5_text_7 : List UInt8 := dkwX5_text_7 ++ dktX5_text_8
def dkwX5_text_6 : List UInt8 := [180, 0, 159, 153, 0, 5, 2, 172, 42, 180, 0, 15, 184, 1, 6, 42, 180, 0, 18, 184, 1, 6, 42]
abbrev dktX5_text_6 : List UInt8 := dkwX5_text_6 ++ dktX5_text_7
def dkwX5_text_5 : List UInt8 := [182, 1, 0, 167, 255, 237, 42, 42, 180, 0, 159, 181, 1, 3, 42, 42, 180, 0, 162, 181, 0, 45, 42]
abbrev dktX5_text_5 : List UInt8 := dkwX5_text_5 ++ dktX5_text_6
def dkwX5_text_4 : List UInt8 := [181, 0, 222, 42, 182, 0, 165, 42, 180, 0, 159, 154, 0, 18, 42, 180, 0, 125, 7, 159, 0, 10, 42]
abbrev dktX5_text_4 : List UInt8 := dkwX5_text_4 ++ dktX5_text_5
def dkwX5_text_3 : List UInt8 := [132, 2, 1, 167, 255, 231, 42, 3, 181, 0, 179, 42, 3, 181, 0, 210, 42, 3, 181, 0, 246, 42, 3]
abbrev dktX5_text_3 : List UInt8 := dkwX5_text_3 ++ dktX5_text_4
def dkwX5_text_2 : List UInt8 := [61, 28, 16, 11, 162, 0, 25, 42, 28, 28, 16, 7, 160, 0, 7, 4, 167, 0, 4, 3, 182, 0, 194]
abbrev dktX5_text_2 : List UInt8 := dkwX5_text_2 ++ dktX5_text_3
def dkwX5_text_1 : List UInt8 := [181, 0, 115, 42, 3, 181, 0, 109, 42, 3, 181, 0, 112, 42, 3, 181, 0, 159, 42, 2, 181, 0, 162, 3]
abbrev dktX5_text_1 : List UInt8 := dkwX5_text_1 ++ dktX5_text_2
def dkwX5_text_0 : List UInt8 := [42, 3, 181, 0, 106, 27, 155, 0, 11, 27, 42, 180, 0, 109, 164, 0, 6, 16, 254, 172, 42, 27]
abbrev dktX5_text_0 : List UInt8 := dkwX5_text_0 ++ dktX5_text_1
theorem dksX5_text_0 : cX5_text.data.toList.drop 0 = dktX5_text_0 := by decide +kernel
theorem dksX5_text_1 : cX5_text.data.toList.drop 22 = dktX5_text_1 := dk_seg dksX5_text_0 22 rfl rfl
theorem dksX5_text_2 : cX5_text.data.toList.drop 46 = dktX5_text_2 := dk_seg dksX5_text_1 24 rfl rfl
theorem dksX5_text_3 : cX5_text.data.toList.drop 69 = dktX5_text_3 := dk_seg dksX5_text_2 23 rfl rfl
theorem dksX5_text_4 : cX5_text.data.toList.drop 92 = dktX5_text_4 := dk_seg dksX5_text_3 23 rfl rfl
theorem dksX5_text_5 : cX5_text.data.toList.drop 115 = dktX5_text_5 := dk_seg dksX5_text_4 23 rfl rfl
theorem dksX5_text_6 : cX5_text.data.toList.drop 138 = dktX5_text_6 := dk_seg dksX5_text_5 23 rfl rfl
theorem dksX5_text_7 : cX5_text.data.toList.drop 161 = dktX5_text_7 := dk_seg dksX5_text_6 23 rfl rfl
theorem dksX5_text_8 : cX5_text.data.toList.drop 185 = dktX5_text_8 := dk_seg dksX5_text_7 24 rfl rfl
theorem dksX5_text_9 : cX5_text.data.toList.drop 209 = dktX5_text_9 := dk_seg dksX5_text_8 24 rfl rfl
theorem dksX5_text_10 : cX5_text.data.toList.drop 232 = dktX5_text_10 := dk_seg dksX5_text_9 23 rfl rfl
abbrev cX5_reads : ByteArray := prog_19_method_20_code
def dkwX5_reads_0 : List UInt8 := [42, 180, 0, 15, 16, 11, 27, 96, 28, 79, 177]
abbrev dktX5_reads_0 : List UInt8 := dkwX5_reads_0 ++ []
theorem dksX5_reads_0 : cX5_reads.data.toList.drop 0 = dktX5_reads_0 := by decide +kernel
abbrev cX5_token : ByteArray := prog_19_method_7_code
def dkwX5_token_9 : List UInt8 := [180, 0, 112, 4, 96, 181, 0, 112, 167, 255, 200, 42, 27, 182, 0, 144, 177]
abbrev dktX5_token_9 : List UInt8 := dkwX5_token_9 ++ []
def dkwX5_token_8 : List UInt8 := [167, 0, 18, 16, 10, 42, 180, 0, 135, 104, 42, 182, 0, 118, 96, 16, 48, 100, 181, 0, 135, 42, 89]
abbrev dktX5_token_8 : List UInt8 := dkwX5_token_8 ++ dktX5_token_9
def dkwX5_token_7 : List UInt8 := [182, 0, 118, 184, 0, 141, 153, 0, 57, 42, 42, 180, 0, 135, 17, 39, 15, 164, 0, 10, 42, 180, 0, 135]
abbrev dktX5_token_7 : List UInt8 := dkwX5_token_7 ++ dktX5_token_8
def dkwX5_token_6 : List UInt8 := [182, 0, 138, 167, 0, 84, 27, 184, 0, 141, 153, 0, 72, 42, 5, 181, 0, 125, 42, 3, 181, 0, 135, 42]
abbrev dktX5_token_6 : List UInt8 := dkwX5_token_6 ++ dktX5_token_7
def dkwX5_token_5 : List UInt8 := [100, 16, 6, 164, 0, 7, 8, 167, 0, 4, 4, 181, 0, 125, 42, 180, 0, 125, 4, 160, 0, 91, 42]
abbrev dktX5_token_5 : List UInt8 := dkwX5_token_5 ++ dktX5_token_6
def dkwX5_token_4 : List UInt8 := [181, 0, 135, 42, 42, 180, 0, 135, 2, 159, 0, 7, 3, 167, 0, 22, 42, 180, 0, 112, 42, 180, 0, 122]
abbrev dktX5_token_4 : List UInt8 := dkwX5_token_4 ++ dktX5_token_5
def dkwX5_token_3 : List UInt8 := [184, 0, 128, 153, 0, 16, 42, 89, 180, 0, 112, 4, 96, 181, 0, 112, 167, 255, 236, 42, 42, 182, 0, 132]
abbrev dktX5_token_3 : List UInt8 := dkwX5_token_3 ++ dktX5_token_4
def dkwX5_token_2 : List UInt8 := [160, 0, 11, 42, 7, 181, 0, 125, 167, 0, 172, 27, 184, 0, 128, 153, 0, 84, 42, 182, 0, 118]
abbrev dktX5_token_2 : List UInt8 := dkwX5_token_2 ++ dktX5_token_3
def dkwX5_token_1 : List UInt8 := [96, 181, 0, 112, 167, 255, 228, 42, 42, 180, 0, 112, 181, 0, 122, 42, 182, 0, 118, 60, 27, 2]
abbrev dktX5_token_1 : List UInt8 := dkwX5_token_1 ++ dktX5_token_2
def dkwX5_token_0 : List UInt8 := [42, 182, 0, 118, 16, 10, 159, 0, 12, 42, 182, 0, 118, 16, 32, 160, 0, 16, 42, 89, 180, 0, 112, 4]
abbrev dktX5_token_0 : List UInt8 := dkwX5_token_0 ++ dktX5_token_1
theorem dksX5_token_0 : cX5_token.data.toList.drop 0 = dktX5_token_0 := by decide +kernel
theorem dksX5_token_1 : cX5_token.data.toList.drop 24 = dktX5_token_1 := dk_seg dksX5_token_0 24 rfl rfl
theorem dksX5_token_2 : cX5_token.data.toList.drop 46 = dktX5_token_2 := dk_seg dksX5_token_1 22 rfl rfl
theorem dksX5_token_3 : cX5_token.data.toList.drop 68 = dktX5_token_3 := dk_seg dksX5_token_2 22 rfl rfl
theorem dksX5_token_4 : cX5_token.data.toList.drop 92 = dktX5_token_4 := dk_seg dksX5_token_3 24 rfl rfl
theorem dksX5_token_5 : cX5_token.data.toList.drop 116 = dktX5_token_5 := dk_seg dksX5_token_4 24 rfl rfl
theorem dksX5_token_6 : cX5_token.data.toList.drop 139 = dktX5_token_6 := dk_seg dksX5_token_5 23 rfl rfl
theorem dksX5_token_7 : cX5_token.data.toList.drop 163 = dktX5_token_7 := dk_seg dksX5_token_6 24 rfl rfl
theorem dksX5_token_8 : cX5_token.data.toList.drop 187 = dktX5_token_8 := dk_seg dksX5_token_7 24 rfl rfl
theorem dksX5_token_9 : cX5_token.data.toList.drop 210 = dktX5_token_9 := dk_seg dksX5_token_8 23 rfl rfl
abbrev cX5_here : ByteArray := prog_19_method_4_code
def dkwX5_here_1 : List UInt8 := [172]
abbrev dktX5_here_1 : List UInt8 := dkwX5_here_1 ++ []
def dkwX5_here_0 : List UInt8 := [42, 180, 0, 112, 42, 180, 0, 115, 162, 0, 15, 42, 180, 0, 11, 42, 180, 0, 112, 46, 167, 0, 4, 2]
abbrev dktX5_here_0 : List UInt8 := dkwX5_here_0 ++ dktX5_here_1
theorem dksX5_here_0 : cX5_here.data.toList.drop 0 = dktX5_here_0 := by decide +kernel
theorem dksX5_here_1 : cX5_here.data.toList.drop 24 = dktX5_here_1 := dk_seg dksX5_here_0 24 rfl rfl
abbrev cX5_isSmall : ByteArray := prog_19_method_5_code
def dkwX5_isSmall_0 : List UInt8 := [26, 16, 97, 161, 0, 13, 26, 16, 122, 163, 0, 7, 4, 167, 0, 4, 3, 172]
abbrev dktX5_isSmall_0 : List UInt8 := dkwX5_isSmall_0 ++ []
theorem dksX5_isSmall_0 : cX5_isSmall.data.toList.drop 0 = dktX5_isSmall_0 := by decide +kernel
abbrev cX5_word : ByteArray := prog_19_method_9_code
def dkwX5_word_5 : List UInt8 := [132, 2, 1, 132, 1, 1, 167, 255, 140, 2, 172]
abbrev dktX5_word_5 : List UInt8 := dkwX5_word_5 ++ []
def dkwX5_word_4 : List UInt8 := [160, 0, 5, 27, 172, 18, 148, 28, 182, 0, 155, 16, 32, 159, 0, 9, 132, 2, 1, 167, 255, 242]
abbrev dktX5_word_4 : List UInt8 := dkwX5_word_4 ++ dktX5_word_5
def dkwX5_word_3 : List UInt8 := [18, 148, 28, 29, 96, 182, 0, 155, 16, 32, 160, 0, 18, 42, 180, 0, 122, 29, 96, 42, 180, 0, 112]
abbrev dktX5_word_3 : List UInt8 := dkwX5_word_3 ++ dktX5_word_4
def dkwX5_word_2 : List UInt8 := [180, 0, 122, 29, 96, 46, 18, 148, 28, 29, 96, 182, 0, 155, 160, 0, 9, 132, 3, 1, 167, 255, 205]
abbrev dktX5_word_2 : List UInt8 := dkwX5_word_2 ++ dktX5_word_3
def dkwX5_word_1 : List UInt8 := [16, 32, 159, 0, 44, 42, 180, 0, 122, 29, 96, 42, 180, 0, 112, 162, 0, 31, 42, 180, 0, 11, 42]
abbrev dktX5_word_1 : List UInt8 := dkwX5_word_1 ++ dktX5_word_2
def dkwX5_word_0 : List UInt8 := [3, 60, 3, 61, 28, 18, 148, 182, 0, 150, 162, 0, 113, 3, 62, 18, 148, 28, 29, 96, 182, 0, 155]
abbrev dktX5_word_0 : List UInt8 := dkwX5_word_0 ++ dktX5_word_1
theorem dksX5_word_0 : cX5_word.data.toList.drop 0 = dktX5_word_0 := by decide +kernel
theorem dksX5_word_1 : cX5_word.data.toList.drop 23 = dktX5_word_1 := dk_seg dksX5_word_0 23 rfl rfl
theorem dksX5_word_2 : cX5_word.data.toList.drop 46 = dktX5_word_2 := dk_seg dksX5_word_1 23 rfl rfl
theorem dksX5_word_3 : cX5_word.data.toList.drop 69 = dktX5_word_3 := dk_seg dksX5_word_2 23 rfl rfl
theorem dksX5_word_4 : cX5_word.data.toList.drop 92 = dktX5_word_4 := dk_seg dksX5_word_3 23 rfl rfl
theorem dksX5_word_5 : cX5_word.data.toList.drop 114 = dktX5_word_5 := dk_seg dksX5_word_4 22 rfl rfl
abbrev cX5_name : ByteArray := prog_19_method_10_code
def dkwX5_name_2 : List UInt8 := [96, 167, 0, 4, 3, 128, 181, 0, 135, 132, 1, 1, 167, 255, 203, 177]
abbrev dktX5_name_2 : List UInt8 := dkwX5_name_2 ++ []
def dkwX5_name_1 : List UInt8 := [27, 96, 42, 180, 0, 112, 162, 0, 22, 42, 180, 0, 11, 42, 180, 0, 122, 27, 96, 46, 16, 97, 100, 4]
abbrev dktX5_name_1 : List UInt8 := dkwX5_name_1 ++ dktX5_name_2
def dkwX5_name_0 : List UInt8 := [42, 3, 181, 0, 135, 3, 60, 27, 16, 6, 162, 0, 53, 42, 42, 180, 0, 135, 8, 120, 42, 180, 0, 122]
abbrev dktX5_name_0 : List UInt8 := dkwX5_name_0 ++ dktX5_name_1
theorem dksX5_name_0 : cX5_name.data.toList.drop 0 = dktX5_name_0 := by decide +kernel
theorem dksX5_name_1 : cX5_name.data.toList.drop 24 = dktX5_name_1 := dk_seg dksX5_name_0 24 rfl rfl
theorem dksX5_name_2 : cX5_name.data.toList.drop 48 = dktX5_name_2 := dk_seg dksX5_name_1 24 rfl rfl
abbrev cX5_isDigit : ByteArray := prog_19_method_6_code
def dkwX5_isDigit_0 : List UInt8 := [26, 16, 48, 161, 0, 13, 26, 16, 57, 163, 0, 7, 4, 167, 0, 4, 3, 172]
abbrev dktX5_isDigit_0 : List UInt8 := dkwX5_isDigit_0 ++ []
theorem dksX5_isDigit_0 : cX5_isDigit.data.toList.drop 0 = dktX5_isDigit_0 := by decide +kernel
abbrev cX5_sign : ByteArray := prog_19_method_8_code
def dkwX5_sign_7 : List UInt8 := [180, 0, 112, 4, 96, 181, 0, 112, 177]
abbrev dktX5_sign_7 : List UInt8 := dkwX5_sign_7 ++ []
def dkwX5_sign_6 : List UInt8 := [160, 0, 10, 42, 17, 1, 2, 181, 0, 135, 42, 180, 0, 135, 17, 1, 0, 161, 0, 13, 42, 89]
abbrev dktX5_sign_6 : List UInt8 := dkwX5_sign_6 ++ dktX5_sign_7
def dkwX5_sign_5 : List UInt8 := [160, 0, 10, 42, 17, 1, 1, 181, 0, 135, 27, 16, 62, 160, 0, 19, 42, 182, 0, 118, 16, 61]
abbrev dktX5_sign_5 : List UInt8 := dkwX5_sign_5 ++ dktX5_sign_6
def dkwX5_sign_4 : List UInt8 := [160, 0, 10, 42, 17, 1, 0, 181, 0, 135, 27, 16, 60, 160, 0, 19, 42, 182, 0, 118, 16, 62]
abbrev dktX5_sign_4 : List UInt8 := dkwX5_sign_4 ++ dktX5_sign_5
def dkwX5_sign_3 : List UInt8 := [167, 0, 4, 8, 181, 0, 125, 42, 27, 181, 0, 135, 27, 16, 60, 160, 0, 19, 42, 182, 0, 118, 16, 61]
abbrev dktX5_sign_3 : List UInt8 := dkwX5_sign_3 ++ dktX5_sign_4
def dkwX5_sign_2 : List UInt8 := [16, 47, 159, 0, 21, 27, 16, 60, 159, 0, 15, 27, 16, 61, 159, 0, 9, 27, 16, 62, 160, 0, 7, 6]
abbrev dktX5_sign_2 : List UInt8 := dkwX5_sign_2 ++ dktX5_sign_3
def dkwX5_sign_1 : List UInt8 := [16, 41, 159, 0, 45, 27, 16, 43, 159, 0, 39, 27, 16, 45, 159, 0, 33, 27, 16, 42, 159, 0, 27, 27]
abbrev dktX5_sign_1 : List UInt8 := dkwX5_sign_1 ++ dktX5_sign_2
def dkwX5_sign_0 : List UInt8 := [42, 89, 180, 0, 112, 4, 96, 181, 0, 112, 42, 27, 16, 59, 159, 0, 57, 27, 16, 40, 159, 0, 51, 27]
abbrev dktX5_sign_0 : List UInt8 := dkwX5_sign_0 ++ dktX5_sign_1
theorem dksX5_sign_0 : cX5_sign.data.toList.drop 0 = dktX5_sign_0 := by decide +kernel
theorem dksX5_sign_1 : cX5_sign.data.toList.drop 24 = dktX5_sign_1 := dk_seg dksX5_sign_0 24 rfl rfl
theorem dksX5_sign_2 : cX5_sign.data.toList.drop 48 = dktX5_sign_2 := dk_seg dksX5_sign_1 24 rfl rfl
theorem dksX5_sign_3 : cX5_sign.data.toList.drop 72 = dktX5_sign_3 := dk_seg dksX5_sign_2 24 rfl rfl
theorem dksX5_sign_4 : cX5_sign.data.toList.drop 96 = dktX5_sign_4 := dk_seg dksX5_sign_3 24 rfl rfl
theorem dksX5_sign_5 : cX5_sign.data.toList.drop 118 = dktX5_sign_5 := dk_seg dksX5_sign_4 22 rfl rfl
theorem dksX5_sign_6 : cX5_sign.data.toList.drop 140 = dktX5_sign_6 := dk_seg dksX5_sign_5 22 rfl rfl
theorem dksX5_sign_7 : cX5_sign.data.toList.drop 162 = dktX5_sign_7 := dk_seg dksX5_sign_6 22 rfl rfl
abbrev cX5_line : ByteArray := prog_19_method_22_code
def dkwX5_line_16 : List UInt8 := [42, 4, 182, 0, 168, 167, 0, 7, 42, 182, 0, 165, 42, 89, 180, 0, 210, 4, 96, 181, 0, 210, 177]
abbrev dktX5_line_16 : List UInt8 := dkwX5_line_16 ++ []
def dkwX5_line_15 : List UInt8 := [167, 0, 7, 42, 182, 0, 204, 42, 180, 0, 159, 153, 0, 4, 177, 42, 16, 59, 182, 0, 207, 154, 0, 11]
abbrev dktX5_line_15 : List UInt8 := dkwX5_line_15 ++ dktX5_line_16
def dkwX5_line_14 : List UInt8 := [42, 16, 7, 42, 3, 7, 182, 0, 190, 182, 0, 194, 167, 0, 17, 42, 16, 8, 4, 182, 0, 194]
abbrev dktX5_line_14 : List UInt8 := dkwX5_line_14 ++ dktX5_line_15
def dkwX5_line_13 : List UInt8 := [182, 0, 190, 182, 0, 194, 167, 0, 47, 42, 16, 6, 42, 3, 6, 182, 0, 190, 182, 0, 194, 167, 0, 32]
abbrev dktX5_line_13 : List UInt8 := dkwX5_line_13 ++ dktX5_line_14
def dkwX5_line_12 : List UInt8 := [182, 0, 194, 42, 7, 42, 3, 16, 99, 182, 0, 190, 182, 0, 194, 167, 0, 62, 42, 8, 42, 3, 16, 9]
abbrev dktX5_line_12 : List UInt8 := dkwX5_line_12 ++ dktX5_line_13
def dkwX5_line_11 : List UInt8 := [182, 0, 198, 167, 0, 96, 42, 182, 0, 201, 167, 0, 89, 42, 6, 42, 3, 16, 99, 182, 0, 190]
abbrev dktX5_line_11 : List UInt8 := dkwX5_line_11 ++ dktX5_line_12
def dkwX5_line_10 : List UInt8 := [180, 0, 159, 154, 0, 118, 42, 3, 42, 3, 182, 0, 175, 4, 96, 182, 0, 194, 167, 0, 103, 42]
abbrev dktX5_line_10 : List UInt8 := dkwX5_line_10 ++ dktX5_line_11
def dkwX5_line_9 : List UInt8 := [17, 0, 200, 182, 0, 190, 79, 42, 180, 0, 36, 16, 6, 42, 3, 182, 0, 175, 96, 3, 79, 42]
abbrev dktX5_line_9 : List UInt8 := dkwX5_line_9 ++ dktX5_line_10
def dkwX5_line_8 : List UInt8 := [42, 182, 0, 182, 182, 0, 186, 79, 42, 180, 0, 21, 16, 6, 42, 3, 182, 0, 175, 96, 42, 4]
abbrev dktX5_line_8 : List UInt8 := dkwX5_line_8 ++ dktX5_line_9
def dkwX5_line_7 : List UInt8 := [42, 180, 0, 18, 16, 6, 42, 3, 182, 0, 175, 96, 42, 42, 180, 0, 18, 16, 6, 42, 3, 182, 0, 175]
abbrev dktX5_line_7 : List UInt8 := dkwX5_line_7 ++ dktX5_line_8
def dkwX5_line_6 : List UInt8 := [170, 0, 0, 0, 0, 0, 232, 0, 0, 0, 0, 0, 0, 0, 7, 0, 0, 0, 47, 0, 0, 0, 136, 0, 0, 0, 143, 0, 0, 0, 150, 0, 0, 0, 177, 0, 0, 0, 192, 0, 0, 0, 207, 0, 0, 0, 222]
abbrev dktX5_line_6 : List UInt8 := dkwX5_line_6 ++ dktX5_line_7
def dkwX5_line_5 : List UInt8 := [181, 0, 179, 42, 182, 0, 165, 27]
abbrev dktX5_line_5 : List UInt8 := dkwX5_line_5 ++ dktX5_line_6
def dkwX5_line_4 : List UInt8 := [42, 6, 182, 0, 168, 42, 180, 0, 159, 153, 0, 4, 177, 42, 89, 180, 0, 179, 4, 27, 120, 128]
abbrev dktX5_line_4 : List UInt8 := dkwX5_line_4 ++ dktX5_line_5
def dkwX5_line_3 : List UInt8 := [5, 182, 0, 168, 167, 0, 25, 27, 6, 161, 0, 20, 42, 180, 0, 179, 27, 122, 4, 126, 4, 160, 0, 8]
abbrev dktX5_line_3 : List UInt8 := dkwX5_line_3 ++ dktX5_line_4
def dkwX5_line_2 : List UInt8 := [4, 182, 0, 175, 6, 159, 0, 18, 27, 5, 160, 0, 21, 42, 5, 182, 0, 175, 16, 12, 160, 0, 11, 42]
abbrev dktX5_line_2 : List UInt8 := dkwX5_line_2 ++ dktX5_line_3
def dkwX5_line_1 : List UInt8 := [180, 0, 135, 60, 27, 154, 0, 13, 42, 3, 182, 0, 175, 16, 6, 159, 0, 32, 27, 4, 160, 0, 12, 42]
abbrev dktX5_line_1 : List UInt8 := dkwX5_line_1 ++ dktX5_line_2
def dkwX5_line_0 : List UInt8 := [42, 180, 0, 125, 154, 0, 12, 42, 180, 0, 135, 16, 8, 164, 0, 9, 42, 4, 182, 0, 168, 177, 42]
abbrev dktX5_line_0 : List UInt8 := dkwX5_line_0 ++ dktX5_line_1
theorem dksX5_line_0 : cX5_line.data.toList.drop 0 = dktX5_line_0 := by decide +kernel
theorem dksX5_line_1 : cX5_line.data.toList.drop 23 = dktX5_line_1 := dk_seg dksX5_line_0 23 rfl rfl
theorem dksX5_line_2 : cX5_line.data.toList.drop 47 = dktX5_line_2 := dk_seg dksX5_line_1 24 rfl rfl
theorem dksX5_line_3 : cX5_line.data.toList.drop 71 = dktX5_line_3 := dk_seg dksX5_line_2 24 rfl rfl
theorem dksX5_line_4 : cX5_line.data.toList.drop 95 = dktX5_line_4 := dk_seg dksX5_line_3 24 rfl rfl
theorem dksX5_line_5 : cX5_line.data.toList.drop 117 = dktX5_line_5 := dk_seg dksX5_line_4 22 rfl rfl
theorem dksX5_line_6 : cX5_line.data.toList.drop 125 = dktX5_line_6 := dk_seg dksX5_line_5 8 rfl rfl
theorem dksX5_line_7 : cX5_line.data.toList.drop 172 = dktX5_line_7 := dk_seg dksX5_line_6 47 rfl rfl
theorem dksX5_line_8 : cX5_line.data.toList.drop 196 = dktX5_line_8 := dk_seg dksX5_line_7 24 rfl rfl
theorem dksX5_line_9 : cX5_line.data.toList.drop 218 = dktX5_line_9 := dk_seg dksX5_line_8 22 rfl rfl
theorem dksX5_line_10 : cX5_line.data.toList.drop 240 = dktX5_line_10 := dk_seg dksX5_line_9 22 rfl rfl
theorem dksX5_line_11 : cX5_line.data.toList.drop 262 = dktX5_line_11 := dk_seg dksX5_line_10 22 rfl rfl
theorem dksX5_line_12 : cX5_line.data.toList.drop 284 = dktX5_line_12 := dk_seg dksX5_line_11 22 rfl rfl
theorem dksX5_line_13 : cX5_line.data.toList.drop 308 = dktX5_line_13 := dk_seg dksX5_line_12 24 rfl rfl
theorem dksX5_line_14 : cX5_line.data.toList.drop 332 = dktX5_line_14 := dk_seg dksX5_line_13 24 rfl rfl
theorem dksX5_line_15 : cX5_line.data.toList.drop 354 = dktX5_line_15 := dk_seg dksX5_line_14 22 rfl rfl
theorem dksX5_line_16 : cX5_line.data.toList.drop 378 = dktX5_line_16 := dk_seg dksX5_line_15 24 rfl rfl
abbrev cX5_wrong : ByteArray := prog_19_method_11_code
def dkwX5_wrong_0 : List UInt8 := [42, 180, 0, 159, 153, 0, 4, 177, 42, 27, 181, 0, 159, 42, 42, 180, 0, 122, 181, 0, 162, 177]
abbrev dktX5_wrong_0 : List UInt8 := dkwX5_wrong_0 ++ []
theorem dksX5_wrong_0 : cX5_wrong.data.toList.drop 0 = dktX5_wrong_0 := by decide +kernel
abbrev cX5_fresher : ByteArray := prog_19_method_19_code
def dkwX5_fresher_0 : List UInt8 := [42, 180, 0, 15, 16, 11, 27, 96, 46, 172]
abbrev dktX5_fresher_0 : List UInt8 := dkwX5_fresher_0 ++ []
theorem dksX5_fresher_0 : cX5_fresher.data.toList.drop 0 = dktX5_fresher_0 := by decide +kernel
abbrev cX5_isFull : ByteArray := prog_19_method_21_code
def dkwX5_isFull_0 : List UInt8 := [42, 3, 182, 0, 175, 42, 16, 10, 182, 0, 175, 96, 16, 12, 160, 0, 7, 4, 167, 0, 4, 3, 172]
abbrev dktX5_isFull_0 : List UInt8 := dkwX5_isFull_0 ++ []
theorem dksX5_isFull_0 : cX5_isFull.data.toList.drop 0 = dktX5_isFull_0 := by decide +kernel
abbrev cX5_fresh : ByteArray := prog_19_method_17_code
def dkwX5_fresh_3 : List UInt8 := [180, 0, 135, 54, 5, 42, 182, 0, 165, 21, 5, 172]
abbrev dktX5_fresh_3 : List UInt8 := dkwX5_fresh_3 ++ []
def dkwX5_fresh_2 : List UInt8 := [184, 0, 171, 2, 159, 0, 8, 42, 6, 182, 0, 168, 42, 180, 0, 159, 153, 0, 5, 3, 172, 42]
abbrev dktX5_fresh_2 : List UInt8 := dkwX5_fresh_2 ++ dktX5_fresh_3
def dkwX5_fresh_1 : List UInt8 := [167, 0, 35, 21, 4, 153, 0, 11, 42, 5, 182, 0, 168, 167, 0, 22, 43, 28, 29, 42, 180, 0, 135]
abbrev dktX5_fresh_1 : List UInt8 := dkwX5_fresh_1 ++ dktX5_fresh_2
def dkwX5_fresh_0 : List UInt8 := [42, 180, 0, 159, 153, 0, 5, 3, 172, 42, 180, 0, 125, 4, 159, 0, 11, 42, 4, 182, 0, 168]
abbrev dktX5_fresh_0 : List UInt8 := dkwX5_fresh_0 ++ dktX5_fresh_1
theorem dksX5_fresh_0 : cX5_fresh.data.toList.drop 0 = dktX5_fresh_0 := by decide +kernel
theorem dksX5_fresh_1 : cX5_fresh.data.toList.drop 22 = dktX5_fresh_1 := dk_seg dksX5_fresh_0 22 rfl rfl
theorem dksX5_fresh_2 : cX5_fresh.data.toList.drop 45 = dktX5_fresh_2 := dk_seg dksX5_fresh_1 23 rfl rfl
theorem dksX5_fresh_3 : cX5_fresh.data.toList.drop 67 = dktX5_fresh_3 := dk_seg dksX5_fresh_2 22 rfl rfl
abbrev cX5_found : ByteArray := prog_19_method_16_code
def dkwX5_found_1 : List UInt8 := [132, 4, 1, 167, 255, 234, 2, 172]
abbrev dktX5_found_1 : List UInt8 := dkwX5_found_1 ++ []
def dkwX5_found_0 : List UInt8 := [3, 54, 4, 21, 4, 28, 162, 0, 22, 42, 27, 21, 4, 96, 46, 29, 160, 0, 6, 21, 4, 172]
abbrev dktX5_found_0 : List UInt8 := dkwX5_found_0 ++ dktX5_found_1
theorem dksX5_found_0 : cX5_found.data.toList.drop 0 = dktX5_found_0 := by decide +kernel
theorem dksX5_found_1 : cX5_found.data.toList.drop 22 = dktX5_found_1 := dk_seg dksX5_found_0 22 rfl rfl
abbrev cX5_numeral : ByteArray := prog_19_method_15_code
def dkwX5_numeral_2 : List UInt8 := [42, 180, 0, 159, 153, 0, 5, 27, 172, 42, 180, 0, 135, 62, 42, 182, 0, 165, 29, 172]
abbrev dktX5_numeral_2 : List UInt8 := dkwX5_numeral_2 ++ []
def dkwX5_numeral_1 : List UInt8 := [167, 0, 24, 42, 180, 0, 135, 27, 161, 0, 11, 42, 180, 0, 135, 28, 164, 0, 8, 42, 5, 182, 0, 168]
abbrev dktX5_numeral_1 : List UInt8 := dkwX5_numeral_1 ++ dktX5_numeral_2
def dkwX5_numeral_0 : List UInt8 := [42, 180, 0, 159, 153, 0, 5, 27, 172, 42, 180, 0, 125, 5, 159, 0, 11, 42, 4, 182, 0, 168]
abbrev dktX5_numeral_0 : List UInt8 := dkwX5_numeral_0 ++ dktX5_numeral_1
theorem dksX5_numeral_0 : cX5_numeral.data.toList.drop 0 = dktX5_numeral_0 := by decide +kernel
theorem dksX5_numeral_1 : cX5_numeral.data.toList.drop 22 = dktX5_numeral_1 := dk_seg dksX5_numeral_0 22 rfl rfl
theorem dksX5_numeral_2 : cX5_numeral.data.toList.drop 46 = dktX5_numeral_2 := dk_seg dksX5_numeral_1 24 rfl rfl
abbrev cX5_dustLine : ByteArray := prog_19_method_23_code
def dkwX5_dustLine_9 : List UInt8 := [182, 0, 165, 42, 180, 0, 125, 4, 159, 255, 104, 42, 4, 27, 4, 96, 182, 0, 194, 177]
abbrev dktX5_dustLine_9 : List UInt8 := dkwX5_dustLine_9 ++ []
def dkwX5_dustLine_8 : List UInt8 := [42, 16, 10, 182, 0, 175, 96, 27, 79, 42, 16, 10, 42, 16, 10, 182, 0, 175, 4, 96, 182, 0, 194, 42]
abbrev dktX5_dustLine_8 : List UInt8 := dkwX5_dustLine_8 ++ dktX5_dustLine_9
def dkwX5_dustLine_7 : List UInt8 := [120, 128, 61, 42, 180, 0, 30, 16, 12, 42, 16, 10, 182, 0, 175, 96, 29, 79, 42, 180, 0, 33, 16, 12]
abbrev dktX5_dustLine_7 : List UInt8 := dkwX5_dustLine_7 ++ dktX5_dustLine_8
def dkwX5_dustLine_6 : List UInt8 := [160, 0, 8, 42, 6, 182, 0, 168, 42, 182, 0, 219, 62, 42, 180, 0, 159, 153, 0, 4, 177, 28, 4, 29]
abbrev dktX5_dustLine_6 : List UInt8 := dkwX5_dustLine_6 ++ dktX5_dustLine_7
def dkwX5_dustLine_5 : List UInt8 := [182, 0, 175, 42, 180, 0, 135, 184, 0, 171, 62, 29, 2, 159, 0, 17, 28, 29, 122, 4, 126, 4]
abbrev dktX5_dustLine_5 : List UInt8 := dkwX5_dustLine_5 ++ dktX5_dustLine_6
def dkwX5_dustLine_4 : List UInt8 := [180, 0, 159, 154, 0, 49, 42, 180, 0, 125, 4, 160, 0, 41, 42, 180, 0, 18, 16, 6, 42, 3]
abbrev dktX5_dustLine_4 : List UInt8 := dkwX5_dustLine_4 ++ dktX5_dustLine_5
def dkwX5_dustLine_3 : List UInt8 := [154, 0, 23, 42, 180, 0, 125, 4, 160, 0, 15, 42, 182, 0, 182, 153, 0, 8, 42, 5, 182, 0, 168, 42]
abbrev dktX5_dustLine_3 : List UInt8 := dkwX5_dustLine_3 ++ dktX5_dustLine_4
def dkwX5_dustLine_2 : List UInt8 := [16, 9, 182, 0, 213, 154, 0, 8, 42, 4, 182, 0, 168, 42, 182, 0, 216, 3, 61, 42, 180, 0, 159]
abbrev dktX5_dustLine_2 : List UInt8 := dkwX5_dustLine_2 ++ dktX5_dustLine_3
def dkwX5_dustLine_1 : List UInt8 := [79, 42, 180, 0, 27, 6, 27, 96, 42, 4, 16, 99, 182, 0, 190, 79, 42, 180, 0, 159, 154, 0, 17, 42]
abbrev dktX5_dustLine_1 : List UInt8 := dkwX5_dustLine_1 ++ dktX5_dustLine_2
def dkwX5_dustLine_0 : List UInt8 := [42, 4, 182, 0, 175, 60, 42, 180, 0, 24, 6, 27, 96, 42, 42, 180, 0, 24, 6, 27, 3, 182, 0, 186]
abbrev dktX5_dustLine_0 : List UInt8 := dkwX5_dustLine_0 ++ dktX5_dustLine_1
theorem dksX5_dustLine_0 : cX5_dustLine.data.toList.drop 0 = dktX5_dustLine_0 := by decide +kernel
theorem dksX5_dustLine_1 : cX5_dustLine.data.toList.drop 24 = dktX5_dustLine_1 := dk_seg dksX5_dustLine_0 24 rfl rfl
theorem dksX5_dustLine_2 : cX5_dustLine.data.toList.drop 48 = dktX5_dustLine_2 := dk_seg dksX5_dustLine_1 24 rfl rfl
theorem dksX5_dustLine_3 : cX5_dustLine.data.toList.drop 71 = dktX5_dustLine_3 := dk_seg dksX5_dustLine_2 23 rfl rfl
theorem dksX5_dustLine_4 : cX5_dustLine.data.toList.drop 95 = dktX5_dustLine_4 := dk_seg dksX5_dustLine_3 24 rfl rfl
theorem dksX5_dustLine_5 : cX5_dustLine.data.toList.drop 117 = dktX5_dustLine_5 := dk_seg dksX5_dustLine_4 22 rfl rfl
theorem dksX5_dustLine_6 : cX5_dustLine.data.toList.drop 139 = dktX5_dustLine_6 := dk_seg dksX5_dustLine_5 22 rfl rfl
theorem dksX5_dustLine_7 : cX5_dustLine.data.toList.drop 163 = dktX5_dustLine_7 := dk_seg dksX5_dustLine_6 24 rfl rfl
theorem dksX5_dustLine_8 : cX5_dustLine.data.toList.drop 187 = dktX5_dustLine_8 := dk_seg dksX5_dustLine_7 24 rfl rfl
theorem dksX5_dustLine_9 : cX5_dustLine.data.toList.drop 211 = dktX5_dustLine_9 := dk_seg dksX5_dustLine_8 24 rfl rfl
abbrev cX5_isWord : ByteArray := prog_19_method_12_code
def dkwX5_isWord_1 : List UInt8 := [167, 0, 4, 3, 172]
abbrev dktX5_isWord_1 : List UInt8 := dkwX5_isWord_1 ++ []
def dkwX5_isWord_0 : List UInt8 := [42, 180, 0, 159, 154, 0, 22, 42, 180, 0, 125, 154, 0, 15, 42, 180, 0, 135, 27, 160, 0, 7, 4]
abbrev dktX5_isWord_0 : List UInt8 := dkwX5_isWord_0 ++ dktX5_isWord_1
theorem dksX5_isWord_0 : cX5_isWord.data.toList.drop 0 = dktX5_isWord_0 := by decide +kernel
theorem dksX5_isWord_1 : cX5_isWord.data.toList.drop 23 = dktX5_isWord_1 := dk_seg dksX5_isWord_0 23 rfl rfl
abbrev cX5_goOn : ByteArray := prog_19_method_14_code
def dkwX5_goOn_0 : List UInt8 := [42, 180, 0, 159, 154, 0, 7, 42, 182, 0, 165, 177]
abbrev dktX5_goOn_0 : List UInt8 := dkwX5_goOn_0 ++ []
theorem dksX5_goOn_0 : cX5_goOn.data.toList.drop 0 = dktX5_goOn_0 := by decide +kernel
abbrev cX5_bead : ByteArray := prog_19_method_18_code
def dkwX5_bead_3 : List UInt8 := [153, 0, 7, 3, 167, 0, 4, 27, 172]
abbrev dktX5_bead_3 : List UInt8 := dkwX5_bead_3 ++ []
def dkwX5_bead_2 : List UInt8 := [42, 4, 182, 0, 168, 167, 0, 13, 27, 2, 160, 0, 8, 42, 7, 182, 0, 168, 42, 180, 0, 159]
abbrev dktX5_bead_2 : List UInt8 := dkwX5_bead_2 ++ dktX5_bead_3
def dkwX5_bead_1 : List UInt8 := [3, 182, 0, 175, 42, 180, 0, 135, 184, 0, 171, 167, 0, 4, 2, 60, 42, 180, 0, 125, 4, 159, 0, 11]
abbrev dktX5_bead_1 : List UInt8 := dkwX5_bead_1 ++ dktX5_bead_2
def dkwX5_bead_0 : List UInt8 := [42, 180, 0, 159, 153, 0, 5, 3, 172, 42, 180, 0, 125, 4, 160, 0, 24, 42, 180, 0, 18, 16, 6, 42]
abbrev dktX5_bead_0 : List UInt8 := dkwX5_bead_0 ++ dktX5_bead_1
theorem dksX5_bead_0 : cX5_bead.data.toList.drop 0 = dktX5_bead_0 := by decide +kernel
theorem dksX5_bead_1 : cX5_bead.data.toList.drop 24 = dktX5_bead_1 := dk_seg dksX5_bead_0 24 rfl rfl
theorem dksX5_bead_2 : cX5_bead.data.toList.drop 48 = dktX5_bead_2 := dk_seg dksX5_bead_1 24 rfl rfl
theorem dksX5_bead_3 : cX5_bead.data.toList.drop 70 = dktX5_bead_3 := dk_seg dksX5_bead_2 22 rfl rfl
abbrev cX5_apartLine : ByteArray := prog_19_method_24_code
def dkwX5_apartLine_3 : List UInt8 := [42, 5, 182, 0, 175, 4, 96, 182, 0, 194, 42, 182, 0, 165, 177]
abbrev dktX5_apartLine_3 : List UInt8 := dkwX5_apartLine_3 ++ []
def dkwX5_apartLine_2 : List UInt8 := [180, 0, 159, 153, 0, 4, 177, 42, 180, 0, 36, 16, 6, 27, 96, 92, 46, 4, 28, 120, 128, 79, 42, 5]
abbrev dktX5_apartLine_2 : List UInt8 := dkwX5_apartLine_2 ++ dktX5_apartLine_3
def dkwX5_apartLine_1 : List UInt8 := [180, 0, 36, 16, 6, 27, 96, 46, 28, 122, 4, 126, 4, 160, 0, 8, 42, 6, 182, 0, 168, 42]
abbrev dktX5_apartLine_1 : List UInt8 := dkwX5_apartLine_1 ++ dktX5_apartLine_2
def dkwX5_apartLine_0 : List UInt8 := [42, 182, 0, 219, 60, 42, 182, 0, 216, 42, 182, 0, 219, 61, 42, 180, 0, 159, 154, 0, 25, 42]
abbrev dktX5_apartLine_0 : List UInt8 := dkwX5_apartLine_0 ++ dktX5_apartLine_1
theorem dksX5_apartLine_0 : cX5_apartLine.data.toList.drop 0 = dktX5_apartLine_0 := by decide +kernel
theorem dksX5_apartLine_1 : cX5_apartLine.data.toList.drop 22 = dktX5_apartLine_1 := dk_seg dksX5_apartLine_0 22 rfl rfl
theorem dksX5_apartLine_2 : cX5_apartLine.data.toList.drop 44 = dktX5_apartLine_2 := dk_seg dksX5_apartLine_1 22 rfl rfl
theorem dksX5_apartLine_3 : cX5_apartLine.data.toList.drop 68 = dktX5_apartLine_3 := dk_seg dksX5_apartLine_2 24 rfl rfl
abbrev cX5_expression : ByteArray := prog_19_method_27_code
def dkwX5_expression_1 : List UInt8 := [182, 0, 225, 42, 5, 17, 1, 6, 182, 0, 231, 167, 255, 227, 177]
abbrev dktX5_expression_1 : List UInt8 := dkwX5_expression_1 ++ []
def dkwX5_expression_0 : List UInt8 := [42, 182, 0, 225, 42, 16, 10, 182, 0, 213, 153, 0, 26, 42, 182, 0, 228, 42, 182, 0, 216, 42]
abbrev dktX5_expression_0 : List UInt8 := dkwX5_expression_0 ++ dktX5_expression_1
theorem dksX5_expression_0 : cX5_expression.data.toList.drop 0 = dktX5_expression_0 := by decide +kernel
theorem dksX5_expression_1 : cX5_expression.data.toList.drop 22 = dktX5_expression_1 := dk_seg dksX5_expression_0 22 rfl rfl
abbrev cX5_conjunction : ByteArray := prog_19_method_28_code
def dkwX5_conjunction_1 : List UInt8 := [182, 0, 234, 42, 5, 17, 1, 5, 182, 0, 231, 167, 255, 227, 177]
abbrev dktX5_conjunction_1 : List UInt8 := dkwX5_conjunction_1 ++ []
def dkwX5_conjunction_0 : List UInt8 := [42, 182, 0, 234, 42, 16, 11, 182, 0, 213, 153, 0, 26, 42, 182, 0, 228, 42, 182, 0, 216, 42]
abbrev dktX5_conjunction_0 : List UInt8 := dkwX5_conjunction_0 ++ dktX5_conjunction_1
theorem dksX5_conjunction_0 : cX5_conjunction.data.toList.drop 0 = dktX5_conjunction_0 := by decide +kernel
theorem dksX5_conjunction_1 : cX5_conjunction.data.toList.drop 22 = dktX5_conjunction_1 := dk_seg dksX5_conjunction_0 22 rfl rfl
abbrev cX5_negation : ByteArray := prog_19_method_29_code
def dkwX5_negation_4 : List UInt8 := [42, 182, 0, 228, 42, 182, 0, 216, 42, 182, 0, 237, 42, 5, 27, 182, 0, 231, 177]
abbrev dktX5_negation_4 : List UInt8 := dkwX5_negation_4 ++ []
def dkwX5_negation_3 : List UInt8 := [180, 0, 135, 16, 61, 159, 0, 14, 42, 180, 0, 135, 17, 1, 0, 162, 0, 4, 177, 42, 180, 0, 135, 60]
abbrev dktX5_negation_3 : List UInt8 := dkwX5_negation_3 ++ dktX5_negation_4
def dkwX5_negation_2 : List UInt8 := [160, 0, 40, 42, 180, 0, 135, 16, 60, 159, 0, 32, 42, 180, 0, 135, 16, 62, 159, 0, 23, 42]
abbrev dktX5_negation_2 : List UInt8 := dkwX5_negation_2 ++ dktX5_negation_3
def dkwX5_negation_1 : List UInt8 := [17, 1, 4, 182, 0, 231, 177, 42, 182, 0, 237, 42, 180, 0, 159, 154, 0, 48, 42, 180, 0, 125, 6]
abbrev dktX5_negation_1 : List UInt8 := dkwX5_negation_1 ++ dktX5_negation_2
def dkwX5_negation_0 : List UInt8 := [42, 16, 12, 182, 0, 213, 153, 0, 24, 42, 182, 0, 228, 42, 182, 0, 216, 42, 182, 0, 234, 42, 5]
abbrev dktX5_negation_0 : List UInt8 := dkwX5_negation_0 ++ dktX5_negation_1
theorem dksX5_negation_0 : cX5_negation.data.toList.drop 0 = dktX5_negation_0 := by decide +kernel
theorem dksX5_negation_1 : cX5_negation.data.toList.drop 23 = dktX5_negation_1 := dk_seg dksX5_negation_0 23 rfl rfl
theorem dksX5_negation_2 : cX5_negation.data.toList.drop 46 = dktX5_negation_2 := dk_seg dksX5_negation_1 23 rfl rfl
theorem dksX5_negation_3 : cX5_negation.data.toList.drop 68 = dktX5_negation_3 := dk_seg dksX5_negation_2 22 rfl rfl
theorem dksX5_negation_4 : cX5_negation.data.toList.drop 92 = dktX5_negation_4 := dk_seg dksX5_negation_3 24 rfl rfl
abbrev cX5_knot : ByteArray := prog_19_method_26_code
def dkwX5_knot_1 : List UInt8 := [167, 0, 13, 42, 89, 180, 0, 222, 4, 96, 181, 0, 222, 177]
abbrev dktX5_knot_1 : List UInt8 := dkwX5_knot_1 ++ []
def dkwX5_knot_0 : List UInt8 := [42, 180, 0, 159, 153, 0, 4, 177, 42, 180, 0, 222, 16, 64, 160, 0, 11, 42, 5, 182, 0, 168]
abbrev dktX5_knot_0 : List UInt8 := dkwX5_knot_0 ++ dktX5_knot_1
theorem dksX5_knot_0 : cX5_knot.data.toList.drop 0 = dktX5_knot_0 := by decide +kernel
theorem dksX5_knot_1 : cX5_knot.data.toList.drop 22 = dktX5_knot_1 := dk_seg dksX5_knot_0 22 rfl rfl
abbrev cX5_puts : ByteArray := prog_19_method_25_code
def dkwX5_puts_2 : List UInt8 := [96, 182, 0, 194, 177]
abbrev dktX5_puts_2 : List UInt8 := dkwX5_puts_2 ++ []
def dkwX5_puts_1 : List UInt8 := [180, 0, 42, 16, 64, 42, 16, 9, 182, 0, 175, 96, 28, 79, 42, 16, 9, 42, 16, 9, 182, 0, 175, 4]
abbrev dktX5_puts_1 : List UInt8 := dkwX5_puts_1 ++ dktX5_puts_2
def dkwX5_puts_0 : List UInt8 := [42, 180, 0, 159, 153, 0, 4, 177, 42, 180, 0, 39, 16, 64, 42, 16, 9, 182, 0, 175, 96, 27, 79, 42]
abbrev dktX5_puts_0 : List UInt8 := dkwX5_puts_0 ++ dktX5_puts_1
theorem dksX5_puts_0 : cX5_puts.data.toList.drop 0 = dktX5_puts_0 := by decide +kernel
theorem dksX5_puts_1 : cX5_puts.data.toList.drop 24 = dktX5_puts_1 := dk_seg dksX5_puts_0 24 rfl rfl
theorem dksX5_puts_2 : cX5_puts.data.toList.drop 48 = dktX5_puts_2 := dk_seg dksX5_puts_1 24 rfl rfl
abbrev cX5_sum : ByteArray := prog_19_method_30_code
def dkwX5_sum_2 : List UInt8 := [167, 255, 215, 177]
abbrev dktX5_sum_2 : List UInt8 := dkwX5_sum_2 ++ []
def dkwX5_sum_1 : List UInt8 := [180, 0, 135, 60, 42, 182, 0, 228, 42, 182, 0, 216, 42, 182, 0, 240, 42, 5, 27, 182, 0, 231]
abbrev dktX5_sum_1 : List UInt8 := dkwX5_sum_1 ++ dktX5_sum_2
def dkwX5_sum_0 : List UInt8 := [42, 182, 0, 240, 42, 16, 43, 182, 0, 207, 154, 0, 12, 42, 16, 45, 182, 0, 207, 153, 0, 29, 42]
abbrev dktX5_sum_0 : List UInt8 := dkwX5_sum_0 ++ dktX5_sum_1
theorem dksX5_sum_0 : cX5_sum.data.toList.drop 0 = dktX5_sum_0 := by decide +kernel
theorem dksX5_sum_1 : cX5_sum.data.toList.drop 23 = dktX5_sum_1 := dk_seg dksX5_sum_0 23 rfl rfl
theorem dksX5_sum_2 : cX5_sum.data.toList.drop 45 = dktX5_sum_2 := dk_seg dksX5_sum_1 22 rfl rfl
abbrev cX5_product : ByteArray := prog_19_method_31_code
def dkwX5_product_2 : List UInt8 := [167, 255, 215, 177]
abbrev dktX5_product_2 : List UInt8 := dkwX5_product_2 ++ []
def dkwX5_product_1 : List UInt8 := [180, 0, 135, 60, 42, 182, 0, 228, 42, 182, 0, 216, 42, 182, 0, 243, 42, 5, 27, 182, 0, 231]
abbrev dktX5_product_1 : List UInt8 := dkwX5_product_1 ++ dktX5_product_2
def dkwX5_product_0 : List UInt8 := [42, 182, 0, 243, 42, 16, 42, 182, 0, 207, 154, 0, 12, 42, 16, 47, 182, 0, 207, 153, 0, 29, 42]
abbrev dktX5_product_0 : List UInt8 := dkwX5_product_0 ++ dktX5_product_1
theorem dksX5_product_0 : cX5_product.data.toList.drop 0 = dktX5_product_0 := by decide +kernel
theorem dksX5_product_1 : cX5_product.data.toList.drop 23 = dktX5_product_1 := dk_seg dksX5_product_0 23 rfl rfl
theorem dksX5_product_2 : cX5_product.data.toList.drop 45 = dktX5_product_2 := dk_seg dksX5_product_1 22 rfl rfl
abbrev cX5_primary : ByteArray := prog_19_method_32_code
def dkwX5_primary_8 : List UInt8 := [167, 0, 10, 42, 180, 0, 135, 16, 13, 100, 182, 0, 231, 42, 182, 0, 216, 177]
abbrev dktX5_primary_8 : List UInt8 := dkwX5_primary_8 ++ []
def dkwX5_primary_7 : List UInt8 := [42, 182, 0, 228, 42, 27, 153, 0, 7, 3, 167, 0, 4, 4, 27, 153, 0, 10, 42, 180, 0, 135]
abbrev dktX5_primary_7 : List UInt8 := dkwX5_primary_7 ++ dktX5_primary_8
def dkwX5_primary_6 : List UInt8 := [154, 0, 24, 42, 180, 0, 125, 154, 0, 12, 42, 180, 0, 135, 16, 13, 162, 0, 8, 42, 4, 182, 0, 168]
abbrev dktX5_primary_6 : List UInt8 := dkwX5_primary_6 ++ dktX5_primary_7
def dkwX5_primary_5 : List UInt8 := [153, 0, 21, 42, 180, 0, 135, 17, 39, 15, 164, 0, 11, 42, 5, 182, 0, 168, 167, 0, 28, 27]
abbrev dktX5_primary_5 : List UInt8 := dkwX5_primary_5 ++ dktX5_primary_6
def dkwX5_primary_4 : List UInt8 := [181, 0, 246, 42, 182, 0, 165, 177, 42, 180, 0, 125, 5, 160, 0, 7, 4, 167, 0, 4, 3, 60, 27]
abbrev dktX5_primary_4 : List UInt8 := dkwX5_primary_4 ++ dktX5_primary_5
def dkwX5_primary_3 : List UInt8 := [154, 0, 8, 42, 4, 182, 0, 168, 42, 180, 0, 159, 153, 0, 4, 177, 42, 89, 180, 0, 246, 4, 100]
abbrev dktX5_primary_3 : List UInt8 := dkwX5_primary_3 ++ dktX5_primary_4
def dkwX5_primary_2 : List UInt8 := [181, 0, 246, 42, 182, 0, 165, 42, 182, 0, 204, 42, 180, 0, 159, 154, 0, 17, 42, 16, 41, 182, 0, 207]
abbrev dktX5_primary_2 : List UInt8 := dkwX5_primary_2 ++ dktX5_primary_3
def dkwX5_primary_1 : List UInt8 := [160, 0, 8, 42, 5, 182, 0, 168, 42, 180, 0, 159, 153, 0, 4, 177, 42, 89, 180, 0, 246, 4, 96]
abbrev dktX5_primary_1 : List UInt8 := dkwX5_primary_1 ++ dktX5_primary_2
def dkwX5_primary_0 : List UInt8 := [42, 180, 0, 159, 153, 0, 4, 177, 42, 16, 40, 182, 0, 207, 153, 0, 87, 42, 180, 0, 246, 16, 8]
abbrev dktX5_primary_0 : List UInt8 := dkwX5_primary_0 ++ dktX5_primary_1
theorem dksX5_primary_0 : cX5_primary.data.toList.drop 0 = dktX5_primary_0 := by decide +kernel
theorem dksX5_primary_1 : cX5_primary.data.toList.drop 23 = dktX5_primary_1 := dk_seg dksX5_primary_0 23 rfl rfl
theorem dksX5_primary_2 : cX5_primary.data.toList.drop 46 = dktX5_primary_2 := dk_seg dksX5_primary_1 23 rfl rfl
theorem dksX5_primary_3 : cX5_primary.data.toList.drop 70 = dktX5_primary_3 := dk_seg dksX5_primary_2 24 rfl rfl
theorem dksX5_primary_4 : cX5_primary.data.toList.drop 93 = dktX5_primary_4 := dk_seg dksX5_primary_3 23 rfl rfl
theorem dksX5_primary_5 : cX5_primary.data.toList.drop 116 = dktX5_primary_5 := dk_seg dksX5_primary_4 23 rfl rfl
theorem dksX5_primary_6 : cX5_primary.data.toList.drop 138 = dktX5_primary_6 := dk_seg dksX5_primary_5 22 rfl rfl
theorem dksX5_primary_7 : cX5_primary.data.toList.drop 162 = dktX5_primary_7 := dk_seg dksX5_primary_6 24 rfl rfl
theorem dksX5_primary_8 : cX5_primary.data.toList.drop 184 = dktX5_primary_8 := dk_seg dksX5_primary_7 22 rfl rfl
abbrev cX5_isSign : ByteArray := prog_19_method_13_code
def dkwX5_isSign_1 : List UInt8 := [167, 0, 4, 3, 172]
abbrev dktX5_isSign_1 : List UInt8 := dkwX5_isSign_1 ++ []
def dkwX5_isSign_0 : List UInt8 := [42, 180, 0, 159, 154, 0, 23, 42, 180, 0, 125, 6, 160, 0, 15, 42, 180, 0, 135, 27, 160, 0, 7, 4]
abbrev dktX5_isSign_0 : List UInt8 := dkwX5_isSign_0 ++ dktX5_isSign_1
theorem dksX5_isSign_0 : cX5_isSign.data.toList.drop 0 = dktX5_isSign_0 := by decide +kernel
theorem dksX5_isSign_1 : cX5_isSign.data.toList.drop 24 = dktX5_isSign_1 := dk_seg dksX5_isSign_0 24 rfl rfl
abbrev cX5_half : ByteArray := prog_19_method_33_code
def dkwX5_half_1 : List UInt8 := [167, 255, 240, 177]
abbrev dktX5_half_1 : List UInt8 := dkwX5_half_1 ++ []
def dkwX5_half_0 : List UInt8 := [42, 190, 5, 108, 60, 3, 61, 28, 27, 162, 0, 17, 42, 28, 42, 27, 28, 96, 46, 79, 132, 2, 1]
abbrev dktX5_half_0 : List UInt8 := dkwX5_half_0 ++ dktX5_half_1
theorem dksX5_half_0 : cX5_half.data.toList.drop 0 = dktX5_half_0 := by decide +kernel
theorem dksX5_half_1 : cX5_half.data.toList.drop 23 = dktX5_half_1 := dk_seg dksX5_half_0 23 rfl rfl
abbrev cX5_layLetters : ByteArray := prog_19_method_34_code
def dkwX5_layLetters_3 : List UInt8 := [42, 180, 0, 27, 42, 180, 0, 33, 27, 46, 46, 96, 182, 0, 252, 132, 1, 1, 167, 255, 203, 177]
abbrev dktX5_layLetters_3 : List UInt8 := dkwX5_layLetters_3 ++ []
def dkwX5_layLetters_2 : List UInt8 := [42, 42, 180, 0, 30, 27, 46, 42, 180, 0, 33, 27, 46, 42, 180, 0, 21, 42, 180, 0, 30, 27, 46, 46]
abbrev dktX5_layLetters_2 : List UInt8 := dkwX5_layLetters_2 ++ dktX5_layLetters_3
def dkwX5_layLetters_1 : List UInt8 := [27, 46, 182, 0, 252, 132, 1, 1, 167, 255, 231, 3, 60, 27, 42, 180, 0, 15, 16, 10, 46, 162, 0, 48]
abbrev dktX5_layLetters_1 : List UInt8 := dkwX5_layLetters_1 ++ dktX5_layLetters_2
def dkwX5_layLetters_0 : List UInt8 := [42, 3, 181, 0, 249, 3, 60, 27, 42, 180, 0, 15, 3, 46, 162, 0, 21, 42, 27, 2, 42, 180, 0, 21]
abbrev dktX5_layLetters_0 : List UInt8 := dkwX5_layLetters_0 ++ dktX5_layLetters_1
theorem dksX5_layLetters_0 : cX5_layLetters.data.toList.drop 0 = dktX5_layLetters_0 := by decide +kernel
theorem dksX5_layLetters_1 : cX5_layLetters.data.toList.drop 24 = dktX5_layLetters_1 := dk_seg dksX5_layLetters_0 24 rfl rfl
theorem dksX5_layLetters_2 : cX5_layLetters.data.toList.drop 48 = dktX5_layLetters_2 := dk_seg dksX5_layLetters_1 24 rfl rfl
theorem dksX5_layLetters_3 : cX5_layLetters.data.toList.drop 72 = dktX5_layLetters_3 := dk_seg dksX5_layLetters_2 24 rfl rfl
abbrev cX5_addLetter : ByteArray := prog_19_method_35_code
def dkwX5_addLetter_1 : List UInt8 := [42, 180, 0, 249, 29, 79, 42, 89, 180, 0, 249, 4, 96, 181, 0, 249, 177]
abbrev dktX5_addLetter_1 : List UInt8 := dkwX5_addLetter_1 ++ []
def dkwX5_addLetter_0 : List UInt8 := [42, 180, 0, 52, 42, 180, 0, 249, 27, 79, 42, 180, 0, 55, 42, 180, 0, 249, 28, 79, 42, 180, 0, 49]
abbrev dktX5_addLetter_0 : List UInt8 := dkwX5_addLetter_0 ++ dktX5_addLetter_1
theorem dksX5_addLetter_0 : cX5_addLetter.data.toList.drop 0 = dktX5_addLetter_0 := by decide +kernel
theorem dksX5_addLetter_1 : cX5_addLetter.data.toList.drop 24 = dktX5_addLetter_1 := dk_seg dksX5_addLetter_0 24 rfl rfl
abbrev cX5_fault : ByteArray := prog_19_method_37_code
def dkwX5_fault_1 : List UInt8 := [180, 0, 45, 167, 0, 4, 2, 172]
abbrev dktX5_fault_1 : List UInt8 := dkwX5_fault_1 ++ []
def dkwX5_fault_0 : List UInt8 := [42, 3, 181, 0, 106, 27, 154, 0, 10, 42, 180, 1, 3, 167, 0, 16, 27, 4, 160, 0, 10, 42]
abbrev dktX5_fault_0 : List UInt8 := dkwX5_fault_0 ++ dktX5_fault_1
theorem dksX5_fault_0 : cX5_fault.data.toList.drop 0 = dktX5_fault_0 := by decide +kernel
theorem dksX5_fault_1 : cX5_fault.data.toList.drop 22 = dktX5_fault_1 := dk_seg dksX5_fault_0 22 rfl rfl
abbrev cX5_named : ByteArray := prog_19_method_38_code
def dkwX5_named_2 : List UInt8 := [167, 0, 4, 2, 172]
abbrev dktX5_named_2 : List UInt8 := dkwX5_named_2 ++ []
def dkwX5_named_1 : List UInt8 := [167, 0, 27, 27, 4, 160, 0, 21, 42, 180, 0, 24, 3, 42, 180, 0, 15, 4, 46, 28, 184, 0, 171]
abbrev dktX5_named_1 : List UInt8 := dkwX5_named_1 ++ dktX5_named_2
def dkwX5_named_0 : List UInt8 := [42, 3, 181, 0, 106, 27, 154, 0, 21, 42, 180, 0, 18, 3, 42, 180, 0, 15, 3, 46, 28, 184, 0, 171]
abbrev dktX5_named_0 : List UInt8 := dkwX5_named_0 ++ dktX5_named_1
theorem dksX5_named_0 : cX5_named.data.toList.drop 0 = dktX5_named_0 := by decide +kernel
theorem dksX5_named_1 : cX5_named.data.toList.drop 24 = dktX5_named_1 := dk_seg dksX5_named_0 24 rfl rfl
theorem dksX5_named_2 : cX5_named.data.toList.drop 47 = dktX5_named_2 := dk_seg dksX5_named_1 23 rfl rfl
abbrev cX5_look : ByteArray := prog_19_method_40_code
def dkwX5_look_3 : List UInt8 := [46, 172]
abbrev dktX5_look_3 : List UInt8 := dkwX5_look_3 ++ []
def dkwX5_look_2 : List UInt8 := [27, 46, 167, 0, 23, 28, 4, 160, 0, 12, 42, 180, 0, 52, 27, 46, 167, 0, 9, 42, 180, 0, 55, 27]
abbrev dktX5_look_2 : List UInt8 := dkwX5_look_2 ++ dktX5_look_3
def dkwX5_look_1 : List UInt8 := [167, 0, 4, 3, 181, 0, 106, 42, 180, 0, 106, 153, 0, 5, 3, 172, 28, 154, 0, 12, 42, 180, 0, 49]
abbrev dktX5_look_1 : List UInt8 := dkwX5_look_1 ++ dktX5_look_2
def dkwX5_look_0 : List UInt8 := [42, 42, 27, 182, 1, 23, 154, 0, 7, 4, 167, 0, 17, 28, 155, 0, 8, 28, 5, 164, 0, 7, 5]
abbrev dktX5_look_0 : List UInt8 := dkwX5_look_0 ++ dktX5_look_1
theorem dksX5_look_0 : cX5_look.data.toList.drop 0 = dktX5_look_0 := by decide +kernel
theorem dksX5_look_1 : cX5_look.data.toList.drop 23 = dktX5_look_1 := dk_seg dksX5_look_0 23 rfl rfl
theorem dksX5_look_2 : cX5_look.data.toList.drop 47 = dktX5_look_2 := dk_seg dksX5_look_1 24 rfl rfl
theorem dksX5_look_3 : cX5_look.data.toList.drop 71 = dktX5_look_3 := dk_seg dksX5_look_2 24 rfl rfl
abbrev cX5_isLetter : ByteArray := prog_19_method_39_code
def dkwX5_isLetter_0 : List UInt8 := [27, 155, 0, 15, 27, 42, 180, 0, 249, 162, 0, 7, 4, 167, 0, 4, 3, 172]
abbrev dktX5_isLetter_0 : List UInt8 := dkwX5_isLetter_0 ++ []
theorem dksX5_isLetter_0 : cX5_isLetter.data.toList.drop 0 = dktX5_isLetter_0 := by decide +kernel
abbrev cX5_sticks : ByteArray := prog_19_method_42_code
def dkwX5_sticks_1 : List UInt8 := [167, 0, 17, 42, 27, 28, 182, 1, 26, 153, 0, 7, 4, 167, 0, 4, 3, 172]
abbrev dktX5_sticks_1 : List UInt8 := dkwX5_sticks_1 ++ []
def dkwX5_sticks_0 : List UInt8 := [42, 3, 181, 0, 106, 42, 27, 182, 1, 23, 153, 0, 11, 42, 28, 182, 1, 23, 154, 0, 7, 2]
abbrev dktX5_sticks_0 : List UInt8 := dkwX5_sticks_0 ++ dktX5_sticks_1
theorem dksX5_sticks_0 : cX5_sticks.data.toList.drop 0 = dktX5_sticks_0 := by decide +kernel
theorem dksX5_sticks_1 : cX5_sticks.data.toList.drop 22 = dktX5_sticks_1 := dk_seg dksX5_sticks_0 22 rfl rfl
abbrev cX5_mayFollow : ByteArray := prog_19_method_41_code
def dkwX5_mayFollow_1 : List UInt8 := [167, 0, 4, 3, 172]
abbrev dktX5_mayFollow_1 : List UInt8 := dkwX5_mayFollow_1 ++ []
def dkwX5_mayFollow_0 : List UInt8 := [42, 180, 0, 36, 42, 180, 0, 52, 28, 46, 46, 42, 180, 0, 52, 27, 46, 122, 4, 126, 154, 0, 7, 4]
abbrev dktX5_mayFollow_0 : List UInt8 := dkwX5_mayFollow_0 ++ dktX5_mayFollow_1
theorem dksX5_mayFollow_0 : cX5_mayFollow.data.toList.drop 0 = dktX5_mayFollow_0 := by decide +kernel
theorem dksX5_mayFollow_1 : cX5_mayFollow.data.toList.drop 24 = dktX5_mayFollow_1 := dk_seg dksX5_mayFollow_0 24 rfl rfl
abbrev cX5_many : ByteArray := prog_19_method_49_code
def dkwX5_many_2 : List UInt8 := [148, 158, 0, 9, 20, 1, 57, 167, 0, 4, 32, 173]
abbrev dktX5_many_2 : List UInt8 := dkwX5_many_2 ++ []
def dkwX5_many_1 : List UInt8 := [180, 0, 59, 27, 42, 180, 0, 249, 42, 180, 0, 15, 16, 7, 46, 184, 1, 34, 47, 65, 32, 20, 1, 30]
abbrev dktX5_many_1 : List UInt8 := dkwX5_many_1 ++ dktX5_many_2
def dkwX5_many_0 : List UInt8 := [42, 3, 181, 0, 106, 27, 184, 1, 49, 154, 0, 7, 20, 1, 52, 173, 42, 27, 182, 1, 54, 42]
abbrev dktX5_many_0 : List UInt8 := dkwX5_many_0 ++ dktX5_many_1
theorem dksX5_many_0 : cX5_many.data.toList.drop 0 = dktX5_many_0 := by decide +kernel
theorem dksX5_many_1 : cX5_many.data.toList.drop 22 = dktX5_many_1 := dk_seg dksX5_many_0 22 rfl rfl
theorem dksX5_many_2 : cX5_many.data.toList.drop 46 = dktX5_many_2 := dk_seg dksX5_many_1 24 rfl rfl
abbrev cX5_isWeight : ByteArray := prog_19_method_48_code
def dkwX5_isWeight_0 : List UInt8 := [26, 4, 161, 0, 14, 26, 17, 2, 88, 163, 0, 7, 4, 167, 0, 4, 3, 172]
abbrev dktX5_isWeight_0 : List UInt8 := dkwX5_isWeight_0 ++ []
theorem dksX5_isWeight_0 : cX5_isWeight.data.toList.drop 0 = dktX5_isWeight_0 := by decide +kernel
abbrev cX5_layTable : ByteArray := prog_19_method_46_code
def dkwX5_layTable_6 : List UInt8 := [167, 255, 172, 132, 2, 1, 167, 255, 159, 177]
abbrev dktX5_layTable_6 : List UInt8 := dkwX5_layTable_6 ++ []
def dkwX5_layTable_5 : List UInt8 := [180, 0, 59, 28, 29, 21, 4, 184, 1, 34, 22, 5, 80, 132, 4, 1, 167, 255, 189, 132, 3, 1]
abbrev dktX5_layTable_5 : List UInt8 := dkwX5_layTable_5 ++ dktX5_layTable_6
def dkwX5_layTable_4 : List UInt8 := [22, 5, 42, 28, 29, 21, 4, 21, 7, 182, 1, 38, 184, 1, 42, 55, 5, 132, 7, 1, 167, 255, 227, 42]
abbrev dktX5_layTable_4 : List UInt8 := dkwX5_layTable_4 ++ dktX5_layTable_5
def dkwX5_layTable_3 : List UInt8 := [180, 0, 15, 16, 7, 46, 163, 0, 61, 9, 55, 5, 3, 54, 7, 21, 7, 42, 180, 0, 249, 162, 0, 26]
abbrev dktX5_layTable_3 : List UInt8 := dkwX5_layTable_3 ++ dktX5_layTable_4
def dkwX5_layTable_2 : List UInt8 := [61, 28, 27, 163, 0, 98, 3, 62, 29, 42, 180, 0, 249, 163, 0, 82, 3, 54, 4, 21, 4, 42]
abbrev dktX5_layTable_2 : List UInt8 := dkwX5_layTable_2 ++ dktX5_layTable_3
def dkwX5_layTable_1 : List UInt8 := [180, 0, 59, 3, 28, 29, 184, 1, 34, 10, 80, 132, 3, 1, 167, 255, 230, 132, 2, 1, 167, 255, 214, 4]
abbrev dktX5_layTable_1 : List UInt8 := dkwX5_layTable_1 ++ dktX5_layTable_2
def dkwX5_layTable_0 : List UInt8 := [3, 61, 28, 42, 180, 0, 249, 163, 0, 40, 3, 62, 29, 42, 180, 0, 15, 16, 7, 46, 163, 0, 21, 42]
abbrev dktX5_layTable_0 : List UInt8 := dkwX5_layTable_0 ++ dktX5_layTable_1
theorem dksX5_layTable_0 : cX5_layTable.data.toList.drop 0 = dktX5_layTable_0 := by decide +kernel
theorem dksX5_layTable_1 : cX5_layTable.data.toList.drop 24 = dktX5_layTable_1 := dk_seg dksX5_layTable_0 24 rfl rfl
theorem dksX5_layTable_2 : cX5_layTable.data.toList.drop 48 = dktX5_layTable_2 := dk_seg dksX5_layTable_1 24 rfl rfl
theorem dksX5_layTable_3 : cX5_layTable.data.toList.drop 70 = dktX5_layTable_3 := dk_seg dksX5_layTable_2 22 rfl rfl
theorem dksX5_layTable_4 : cX5_layTable.data.toList.drop 94 = dktX5_layTable_4 := dk_seg dksX5_layTable_3 24 rfl rfl
theorem dksX5_layTable_5 : cX5_layTable.data.toList.drop 118 = dktX5_layTable_5 := dk_seg dksX5_layTable_4 24 rfl rfl
theorem dksX5_layTable_6 : cX5_layTable.data.toList.drop 140 = dktX5_layTable_6 := dk_seg dksX5_layTable_5 22 rfl rfl
abbrev cX5_atTable : ByteArray := prog_19_method_45_code
def dkwX5_atTable_0 : List UInt8 := [26, 16, 13, 104, 27, 96, 8, 104, 28, 96, 172]
abbrev dktX5_atTable_0 : List UInt8 := dkwX5_atTable_0 ++ []
theorem dksX5_atTable_0 : cX5_atTable.data.toList.drop 0 = dktX5_atTable_0 := by decide +kernel
abbrev cX5_behind : ByteArray := prog_19_method_47_code
def dkwX5_behind_2 : List UInt8 := [180, 0, 49, 21, 4, 46, 100, 21, 4, 29, 42, 21, 4, 182, 1, 46, 100, 184, 1, 34, 47, 173]
abbrev dktX5_behind_2 : List UInt8 := dkwX5_behind_2 ++ []
def dkwX5_behind_1 : List UInt8 := [180, 0, 249, 162, 0, 15, 42, 21, 4, 28, 182, 1, 26, 154, 0, 5, 9, 173, 42, 180, 0, 59, 27, 42]
abbrev dktX5_behind_1 : List UInt8 := dkwX5_behind_1 ++ dktX5_behind_2
def dkwX5_behind_0 : List UInt8 := [42, 180, 0, 49, 21, 4, 46, 27, 163, 0, 31, 42, 21, 4, 182, 1, 46, 29, 163, 0, 21, 28, 42]
abbrev dktX5_behind_0 : List UInt8 := dkwX5_behind_0 ++ dktX5_behind_1
theorem dksX5_behind_0 : cX5_behind.data.toList.drop 0 = dktX5_behind_0 := by decide +kernel
theorem dksX5_behind_1 : cX5_behind.data.toList.drop 23 = dktX5_behind_1 := dk_seg dksX5_behind_0 23 rfl rfl
theorem dksX5_behind_2 : cX5_behind.data.toList.drop 47 = dktX5_behind_2 := dk_seg dksX5_behind_1 24 rfl rfl
abbrev cX5_dustOf : ByteArray := prog_19_method_43_code
def dkwX5_dustOf_0 : List UInt8 := [42, 180, 0, 55, 27, 46, 2, 160, 0, 7, 3, 167, 0, 4, 4, 172]
abbrev dktX5_dustOf_0 : List UInt8 := dkwX5_dustOf_0 ++ []
theorem dksX5_dustOf_0 : cX5_dustOf.data.toList.drop 0 = dktX5_dustOf_0 := by decide +kernel
abbrev cX5_more : ByteArray := prog_19_method_44_code
def dkwX5_more_0 : List UInt8 := [30, 20, 1, 30, 32, 101, 148, 158, 0, 9, 20, 1, 32, 167, 0, 6, 30, 32, 97, 173]
abbrev dktX5_more_0 : List UInt8 := dkwX5_more_0 ++ []
theorem dksX5_more_0 : cX5_more.data.toList.drop 0 = dktX5_more_0 := by decide +kernel
abbrev cX5_kth : ByteArray := prog_19_method_50_code
def dkwX5_kth_8 : List UInt8 := [167, 255, 167, 16, 254, 172]
abbrev dktX5_kth_8 : List UInt8 := dkwX5_kth_8 ++ []
def dkwX5_kth_7 : List UInt8 := [46, 100, 54, 7, 21, 9, 42, 21, 13, 182, 1, 46, 100, 54, 9, 21, 13, 54, 8, 132, 12, 1]
abbrev dktX5_kth_7 : List UInt8 := dkwX5_kth_7 ++ dktX5_kth_8
def dkwX5_kth_6 : List UInt8 := [132, 13, 1, 167, 255, 218, 21, 12, 21, 4, 160, 0, 6, 21, 13, 172, 21, 7, 42, 180, 0, 49, 21, 13]
abbrev dktX5_kth_6 : List UInt8 := dkwX5_kth_6 ++ dktX5_kth_7
def dkwX5_kth_5 : List UInt8 := [182, 1, 38, 148, 155, 0, 26, 22, 10, 42, 21, 7, 21, 8, 21, 9, 21, 13, 182, 1, 38, 101, 55, 10]
abbrev dktX5_kth_5 : List UInt8 := dkwX5_kth_5 ++ dktX5_kth_6
def dkwX5_kth_4 : List UInt8 := [55, 10, 3, 54, 12, 21, 7, 158, 0, 90, 3, 54, 13, 22, 10, 42, 21, 7, 21, 8, 21, 9, 21, 13]
abbrev dktX5_kth_4 : List UInt8 := dkwX5_kth_4 ++ dktX5_kth_5
def dkwX5_kth_3 : List UInt8 := [155, 0, 5, 2, 172, 27, 54, 7, 42, 180, 0, 249, 54, 8, 42, 180, 0, 15, 16, 7, 46, 54, 9, 32]
abbrev dktX5_kth_3 : List UInt8 := dkwX5_kth_3 ++ dktX5_kth_4
def dkwX5_kth_2 : List UInt8 := [184, 1, 34, 47, 55, 5, 22, 5, 20, 1, 30, 148, 158, 0, 6, 16, 254, 172, 32, 22, 5, 148]
abbrev dktX5_kth_2 : List UInt8 := dkwX5_kth_2 ++ dktX5_kth_3
def dkwX5_kth_1 : List UInt8 := [172, 42, 27, 182, 1, 54, 42, 180, 0, 59, 27, 42, 180, 0, 249, 42, 180, 0, 15, 16, 7, 46]
abbrev dktX5_kth_1 : List UInt8 := dkwX5_kth_1 ++ dktX5_kth_2
def dkwX5_kth_0 : List UInt8 := [42, 3, 181, 0, 106, 27, 184, 1, 49, 153, 0, 14, 32, 9, 148, 155, 0, 8, 21, 4, 156, 0, 5, 2]
abbrev dktX5_kth_0 : List UInt8 := dkwX5_kth_0 ++ dktX5_kth_1
theorem dksX5_kth_0 : cX5_kth.data.toList.drop 0 = dktX5_kth_0 := by decide +kernel
theorem dksX5_kth_1 : cX5_kth.data.toList.drop 24 = dktX5_kth_1 := dk_seg dksX5_kth_0 24 rfl rfl
theorem dksX5_kth_2 : cX5_kth.data.toList.drop 46 = dktX5_kth_2 := dk_seg dksX5_kth_1 22 rfl rfl
theorem dksX5_kth_3 : cX5_kth.data.toList.drop 68 = dktX5_kth_3 := dk_seg dksX5_kth_2 22 rfl rfl
theorem dksX5_kth_4 : cX5_kth.data.toList.drop 92 = dktX5_kth_4 := dk_seg dksX5_kth_3 24 rfl rfl
theorem dksX5_kth_5 : cX5_kth.data.toList.drop 116 = dktX5_kth_5 := dk_seg dksX5_kth_4 24 rfl rfl
theorem dksX5_kth_6 : cX5_kth.data.toList.drop 140 = dktX5_kth_6 := dk_seg dksX5_kth_5 24 rfl rfl
theorem dksX5_kth_7 : cX5_kth.data.toList.drop 164 = dktX5_kth_7 := dk_seg dksX5_kth_6 24 rfl rfl
theorem dksX5_kth_8 : cX5_kth.data.toList.drop 186 = dktX5_kth_8 := dk_seg dksX5_kth_7 22 rfl rfl
abbrev cX5_whole : ByteArray := prog_19_method_51_code
def dkwX5_whole_1 : List UInt8 := [172]
abbrev dktX5_whole_1 : List UInt8 := dkwX5_whole_1 ++ []
def dkwX5_whole_0 : List UInt8 := [42, 3, 181, 0, 106, 27, 155, 0, 10, 27, 17, 7, 208, 164, 0, 5, 3, 172, 42, 27, 181, 1, 13, 4]
abbrev dktX5_whole_0 : List UInt8 := dkwX5_whole_0 ++ dktX5_whole_1
theorem dksX5_whole_0 : cX5_whole.data.toList.drop 0 = dktX5_whole_0 := by decide +kernel
theorem dksX5_whole_1 : cX5_whole.data.toList.drop 24 = dktX5_whole_1 := dk_seg dksX5_whole_0 24 rfl rfl
abbrev cX5_crumb : ByteArray := prog_19_method_52_code
def dkwX5_crumb_3 : List UInt8 := [180, 1, 16, 4, 96, 181, 1, 16, 42, 180, 1, 16, 4, 100, 172]
abbrev dktX5_crumb_3 : List UInt8 := dkwX5_crumb_3 ++ []
def dkwX5_crumb_2 : List UInt8 := [42, 180, 0, 69, 42, 180, 1, 16, 28, 79, 42, 180, 0, 72, 42, 180, 1, 16, 3, 84, 42, 89]
abbrev dktX5_crumb_2 : List UInt8 := dkwX5_crumb_2 ++ dktX5_crumb_3
def dkwX5_crumb_1 : List UInt8 := [163, 0, 12, 42, 180, 1, 16, 16, 24, 160, 0, 5, 2, 172, 42, 180, 0, 66, 42, 180, 1, 16, 27, 79]
abbrev dktX5_crumb_1 : List UInt8 := dkwX5_crumb_1 ++ dktX5_crumb_2
def dkwX5_crumb_0 : List UInt8 := [42, 3, 181, 0, 106, 27, 155, 0, 28, 27, 6, 163, 0, 23, 28, 155, 0, 19, 28, 17, 39, 15]
abbrev dktX5_crumb_0 : List UInt8 := dkwX5_crumb_0 ++ dktX5_crumb_1
theorem dksX5_crumb_0 : cX5_crumb.data.toList.drop 0 = dktX5_crumb_0 := by decide +kernel
theorem dksX5_crumb_1 : cX5_crumb.data.toList.drop 22 = dktX5_crumb_1 := dk_seg dksX5_crumb_0 22 rfl rfl
theorem dksX5_crumb_2 : cX5_crumb.data.toList.drop 46 = dktX5_crumb_2 := dk_seg dksX5_crumb_1 24 rfl rfl
theorem dksX5_crumb_3 : cX5_crumb.data.toList.drop 68 = dktX5_crumb_3 := dk_seg dksX5_crumb_2 22 rfl rfl
abbrev cX5_strike : ByteArray := prog_19_method_53_code
def dkwX5_strike_1 : List UInt8 := [153, 0, 5, 3, 172, 42, 180, 0, 72, 27, 4, 84, 4, 172]
abbrev dktX5_strike_1 : List UInt8 := dkwX5_strike_1 ++ []
def dkwX5_strike_0 : List UInt8 := [42, 3, 181, 0, 106, 27, 155, 0, 20, 27, 42, 180, 1, 16, 162, 0, 12, 42, 180, 0, 72, 27, 51]
abbrev dktX5_strike_0 : List UInt8 := dkwX5_strike_0 ++ dktX5_strike_1
theorem dksX5_strike_0 : cX5_strike.data.toList.drop 0 = dktX5_strike_0 := by decide +kernel
theorem dksX5_strike_1 : cX5_strike.data.toList.drop 23 = dktX5_strike_1 := dk_seg dksX5_strike_0 23 rfl rfl
abbrev cX5_known : ByteArray := prog_19_method_54_code
def dkwX5_known_1 : List UInt8 := [181, 0, 63, 4, 172]
abbrev dktX5_known_1 : List UInt8 := dkwX5_known_1 ++ []
def dkwX5_known_0 : List UInt8 := [42, 3, 181, 0, 106, 27, 2, 161, 0, 11, 27, 42, 180, 1, 16, 164, 0, 5, 3, 172, 42, 27]
abbrev dktX5_known_0 : List UInt8 := dkwX5_known_0 ++ dktX5_known_1
theorem dksX5_known_0 : cX5_known.data.toList.drop 0 = dktX5_known_0 := by decide +kernel
theorem dksX5_known_1 : cX5_known.data.toList.drop 22 = dktX5_known_1 := dk_seg dksX5_known_0 22 rfl rfl
abbrev cX5_found_2 : ByteArray := prog_19_method_71_code
def dkwX5_found_2_1 : List UInt8 := [180, 1, 115, 167, 0, 5, 16, 254, 172]
abbrev dktX5_found_2_1 : List UInt8 := dkwX5_found_2_1 ++ []
def dkwX5_found_2_0 : List UInt8 := [42, 3, 181, 0, 106, 42, 180, 1, 13, 154, 0, 5, 2, 172, 42, 182, 1, 131, 153, 0, 10, 42]
abbrev dktX5_found_2_0 : List UInt8 := dkwX5_found_2_0 ++ dktX5_found_2_1
theorem dksX5_found_2_0 : cX5_found_2.data.toList.drop 0 = dktX5_found_2_0 := by decide +kernel
theorem dksX5_found_2_1 : cX5_found_2.data.toList.drop 22 = dktX5_found_2_1 := dk_seg dksX5_found_2_0 22 rfl rfl
abbrev cX5_search : ByteArray := prog_19_method_69_code
def dkwX5_search_2 : List UInt8 := [182, 1, 128, 42, 180, 1, 121, 154, 0, 14, 42, 180, 1, 118, 154, 0, 7, 4, 167, 0, 4, 3, 172]
abbrev dktX5_search_2 : List UInt8 := dkwX5_search_2 ++ []
def dkwX5_search_1 : List UInt8 := [181, 1, 62, 42, 180, 1, 13, 154, 0, 5, 3, 172, 42, 42, 180, 1, 13, 42, 180, 0, 15, 16, 7, 46]
abbrev dktX5_search_1 : List UInt8 := dkwX5_search_1 ++ dktX5_search_2
def dkwX5_search_0 : List UInt8 := [42, 3, 181, 1, 115, 42, 3, 181, 1, 124, 42, 3, 181, 1, 121, 42, 3, 181, 1, 118, 42, 3]
abbrev dktX5_search_0 : List UInt8 := dkwX5_search_0 ++ dktX5_search_1
theorem dksX5_search_0 : cX5_search.data.toList.drop 0 = dktX5_search_0 := by decide +kernel
theorem dksX5_search_1 : cX5_search.data.toList.drop 22 = dktX5_search_1 := dk_seg dksX5_search_0 22 rfl rfl
theorem dksX5_search_2 : cX5_search.data.toList.drop 46 = dktX5_search_2 := dk_seg dksX5_search_1 24 rfl rfl
abbrev cX5_goes : ByteArray := prog_19_method_68_code
def dkwX5_goes_11 : List UInt8 := [167, 255, 115, 177]
abbrev dktX5_goes_11 : List UInt8 := dkwX5_goes_11 ++ []
def dkwX5_goes_10 : List UInt8 := [28, 42, 29, 182, 1, 46, 100, 182, 1, 128, 42, 89, 180, 1, 62, 4, 100, 181, 1, 62, 132, 3, 1]
abbrev dktX5_goes_10 : List UInt8 := dkwX5_goes_10 ++ dktX5_goes_11
def dkwX5_goes_9 : List UInt8 := [180, 1, 62, 29, 79, 42, 89, 180, 1, 62, 4, 96, 181, 1, 62, 42, 27, 42, 180, 0, 49, 29, 46, 100]
abbrev dktX5_goes_9 : List UInt8 := dkwX5_goes_9 ++ dktX5_goes_10
def dkwX5_goes_8 : List UInt8 := [181, 1, 124, 42, 180, 1, 124, 19, 1, 127, 164, 0, 9, 42, 4, 181, 1, 121, 177, 42, 180, 0, 85, 42]
abbrev dktX5_goes_8 : List UInt8 := dkwX5_goes_8 ++ dktX5_goes_9
def dkwX5_goes_7 : List UInt8 := [180, 1, 62, 4, 100, 46, 182, 1, 26, 154, 0, 6, 167, 0, 78, 42, 89, 180, 1, 124, 4, 96]
abbrev dktX5_goes_7 : List UInt8 := dkwX5_goes_7 ++ dktX5_goes_8
def dkwX5_goes_6 : List UInt8 := [29, 182, 1, 46, 28, 163, 0, 107, 42, 180, 1, 62, 158, 0, 25, 42, 29, 42, 180, 0, 85, 42]
abbrev dktX5_goes_6 : List UInt8 := dkwX5_goes_6 ++ dktX5_goes_7
def dkwX5_goes_5 : List UInt8 := [180, 0, 249, 162, 0, 139, 42, 180, 1, 121, 154, 0, 132, 42, 180, 0, 49, 29, 46, 27, 163, 0, 116, 42]
abbrev dktX5_goes_5 : List UInt8 := dkwX5_goes_5 ++ dktX5_goes_6
def dkwX5_goes_4 : List UInt8 := [180, 1, 115, 4, 96, 181, 1, 115, 177, 42, 180, 1, 62, 16, 12, 160, 0, 4, 177, 3, 62, 29, 42]
abbrev dktX5_goes_4 : List UInt8 := dkwX5_goes_4 ++ dktX5_goes_5
def dkwX5_goes_3 : List UInt8 := [46, 79, 132, 3, 1, 167, 255, 225, 42, 180, 0, 91, 42, 180, 1, 115, 42, 180, 1, 62, 79, 42, 89]
abbrev dktX5_goes_3 : List UInt8 := dkwX5_goes_3 ++ dktX5_goes_4
def dkwX5_goes_2 : List UInt8 := [180, 1, 62, 162, 0, 29, 42, 180, 0, 88, 16, 12, 42, 180, 1, 115, 104, 29, 96, 42, 180, 0, 85, 29]
abbrev dktX5_goes_2 : List UInt8 := dkwX5_goes_2 ++ dktX5_goes_3
def dkwX5_goes_1 : List UInt8 := [164, 0, 4, 177, 42, 180, 1, 115, 16, 60, 160, 0, 9, 42, 4, 181, 1, 118, 177, 3, 62, 29, 42]
abbrev dktX5_goes_1 : List UInt8 := dkwX5_goes_1 ++ dktX5_goes_2
def dkwX5_goes_0 : List UInt8 := [27, 154, 0, 100, 42, 182, 1, 109, 153, 0, 17, 42, 182, 1, 112, 42, 180, 0, 15, 16, 6, 46]
abbrev dktX5_goes_0 : List UInt8 := dkwX5_goes_0 ++ dktX5_goes_1
theorem dksX5_goes_0 : cX5_goes.data.toList.drop 0 = dktX5_goes_0 := by decide +kernel
theorem dksX5_goes_1 : cX5_goes.data.toList.drop 22 = dktX5_goes_1 := dk_seg dksX5_goes_0 22 rfl rfl
theorem dksX5_goes_2 : cX5_goes.data.toList.drop 45 = dktX5_goes_2 := dk_seg dksX5_goes_1 23 rfl rfl
theorem dksX5_goes_3 : cX5_goes.data.toList.drop 69 = dktX5_goes_3 := dk_seg dksX5_goes_2 24 rfl rfl
theorem dksX5_goes_4 : cX5_goes.data.toList.drop 92 = dktX5_goes_4 := dk_seg dksX5_goes_3 23 rfl rfl
theorem dksX5_goes_5 : cX5_goes.data.toList.drop 115 = dktX5_goes_5 := dk_seg dksX5_goes_4 23 rfl rfl
theorem dksX5_goes_6 : cX5_goes.data.toList.drop 139 = dktX5_goes_6 := dk_seg dksX5_goes_5 24 rfl rfl
theorem dksX5_goes_7 : cX5_goes.data.toList.drop 161 = dktX5_goes_7 := dk_seg dksX5_goes_6 22 rfl rfl
theorem dksX5_goes_8 : cX5_goes.data.toList.drop 183 = dktX5_goes_8 := dk_seg dksX5_goes_7 22 rfl rfl
theorem dksX5_goes_9 : cX5_goes.data.toList.drop 207 = dktX5_goes_9 := dk_seg dksX5_goes_8 24 rfl rfl
theorem dksX5_goes_10 : cX5_goes.data.toList.drop 231 = dktX5_goes_10 := dk_seg dksX5_goes_9 24 rfl rfl
theorem dksX5_goes_11 : cX5_goes.data.toList.drop 254 = dktX5_goes_11 := dk_seg dksX5_goes_10 23 rfl rfl
abbrev cX5_isClosed : ByteArray := prog_19_method_67_code
def dkwX5_isClosed_1 : List UInt8 := [46, 42, 180, 0, 85, 42, 180, 1, 62, 4, 100, 46, 182, 1, 26, 153, 0, 7, 4, 167, 0, 4, 3, 172]
abbrev dktX5_isClosed_1 : List UInt8 := dkwX5_isClosed_1 ++ []
def dkwX5_isClosed_0 : List UInt8 := [42, 180, 0, 15, 16, 8, 46, 153, 0, 35, 42, 180, 1, 62, 5, 161, 0, 27, 42, 42, 180, 0, 85, 3]
abbrev dktX5_isClosed_0 : List UInt8 := dkwX5_isClosed_0 ++ dktX5_isClosed_1
theorem dksX5_isClosed_0 : cX5_isClosed.data.toList.drop 0 = dktX5_isClosed_0 := by decide +kernel
theorem dksX5_isClosed_1 : cX5_isClosed.data.toList.drop 24 = dktX5_isClosed_1 := dk_seg dksX5_isClosed_0 24 rfl rfl
abbrev cX5_strays : ByteArray := prog_19_method_64_code
def dkwX5_strays_2 : List UInt8 := [160, 0, 8, 42, 28, 181, 1, 100, 132, 2, 1, 167, 255, 210, 27, 172]
abbrev dktX5_strays_2 : List UInt8 := dkwX5_strays_2 ++ []
def dkwX5_strays_1 : List UInt8 := [153, 0, 30, 42, 28, 182, 1, 106, 153, 0, 6, 167, 0, 19, 132, 1, 1, 42, 180, 1, 100, 2]
abbrev dktX5_strays_1 : List UInt8 := dkwX5_strays_1 ++ dktX5_strays_2
def dkwX5_strays_0 : List UInt8 := [3, 60, 42, 2, 181, 1, 100, 3, 61, 28, 42, 180, 1, 16, 162, 0, 44, 42, 28, 182, 1, 103]
abbrev dktX5_strays_0 : List UInt8 := dkwX5_strays_0 ++ dktX5_strays_1
theorem dksX5_strays_0 : cX5_strays.data.toList.drop 0 = dktX5_strays_0 := by decide +kernel
theorem dksX5_strays_1 : cX5_strays.data.toList.drop 22 = dktX5_strays_1 := dk_seg dksX5_strays_0 22 rfl rfl
theorem dksX5_strays_2 : cX5_strays.data.toList.drop 44 = dktX5_strays_2 := dk_seg dksX5_strays_1 22 rfl rfl
abbrev cX5_isKnown : ByteArray := prog_19_method_56_code
def dkwX5_isKnown_0 : List UInt8 := [27, 42, 182, 1, 59, 162, 0, 16, 42, 180, 0, 72, 27, 51, 154, 0, 7, 4, 167, 0, 4, 3, 172]
abbrev dktX5_isKnown_0 : List UInt8 := dkwX5_isKnown_0 ++ []
theorem dksX5_isKnown_0 : cX5_isKnown.data.toList.drop 0 = dktX5_isKnown_0 := by decide +kernel
abbrev cX5_knownMany : ByteArray := prog_19_method_55_code
def dkwX5_knownMany_0 : List UInt8 := [42, 180, 0, 63, 2, 160, 0, 10, 42, 180, 1, 16, 167, 0, 7, 42, 180, 0, 63, 172]
abbrev dktX5_knownMany_0 : List UInt8 := dkwX5_knownMany_0 ++ []
theorem dksX5_knownMany_0 : cX5_knownMany.data.toList.drop 0 = dktX5_knownMany_0 := by decide +kernel
abbrev cX5_finds : ByteArray := prog_19_method_62_code
def dkwX5_finds_13 : List UInt8 := [159, 0, 7, 4, 167, 0, 4, 3, 172]
abbrev dktX5_finds_13 : List UInt8 := dkwX5_finds_13 ++ []
def dkwX5_finds_12 : List UInt8 := [29, 21, 5, 182, 1, 85, 132, 5, 1, 167, 255, 215, 132, 3, 1, 167, 255, 144, 42, 180, 1, 73, 2]
abbrev dktX5_finds_12 : List UInt8 := dkwX5_finds_12 ++ dktX5_finds_13
def dkwX5_finds_11 : List UInt8 := [180, 1, 73, 2, 160, 0, 32, 42, 42, 29, 21, 5, 182, 1, 70, 27, 182, 1, 82, 153, 0, 11, 42, 5]
abbrev dktX5_finds_11 : List UInt8 := dkwX5_finds_11 ++ dktX5_finds_12
def dkwX5_finds_10 : List UInt8 := [100, 42, 180, 1, 62, 29, 100, 184, 1, 91, 54, 4, 4, 54, 5, 21, 5, 21, 4, 163, 0, 40, 42]
abbrev dktX5_finds_10 : List UInt8 := dkwX5_finds_10 ++ dktX5_finds_11
def dkwX5_finds_9 : List UInt8 := [180, 0, 15, 16, 8, 46, 4, 160, 0, 12, 42, 180, 1, 62, 4, 100, 167, 0, 18, 42, 180, 1, 62, 4]
abbrev dktX5_finds_9 : List UInt8 := dkwX5_finds_9 ++ dktX5_finds_10
def dkwX5_finds_8 : List UInt8 := [180, 1, 62, 162, 0, 110, 42, 27, 5, 182, 1, 76, 153, 0, 101, 42, 180, 1, 73, 2, 160, 0, 93, 42]
abbrev dktX5_finds_8 : List UInt8 := dkwX5_finds_8 ++ dktX5_finds_9
def dkwX5_finds_7 : List UInt8 := [4, 42, 180, 1, 62, 29, 100, 29, 182, 1, 85, 21, 4, 61, 132, 3, 1, 167, 255, 167, 3, 62, 29, 42]
abbrev dktX5_finds_7 : List UInt8 := dkwX5_finds_7 ++ dktX5_finds_8
def dkwX5_finds_6 : List UInt8 := [182, 1, 82, 153, 0, 35, 42, 180, 1, 73, 4, 160, 0, 12, 21, 4, 28, 161, 0, 6, 167, 0, 18, 42]
abbrev dktX5_finds_6 : List UInt8 := dkwX5_finds_6 ++ dktX5_finds_7
def dkwX5_finds_5 : List UInt8 := [182, 1, 88, 42, 180, 0, 69, 27, 46, 100, 184, 1, 65, 54, 4, 42, 42, 29, 182, 1, 88, 27]
abbrev dktX5_finds_5 : List UInt8 := dkwX5_finds_5 ++ dktX5_finds_6
def dkwX5_finds_4 : List UInt8 := [180, 1, 62, 162, 0, 87, 42, 27, 4, 182, 1, 76, 153, 0, 78, 42, 180, 1, 73, 153, 0, 71, 42, 29]
abbrev dktX5_finds_4 : List UInt8 := dkwX5_finds_4 ++ dktX5_finds_5
def dkwX5_finds_3 : List UInt8 := [167, 0, 13, 42, 3, 3, 29, 182, 1, 85, 21, 4, 61, 132, 3, 1, 167, 255, 180, 4, 62, 29, 42]
abbrev dktX5_finds_3 : List UInt8 := dkwX5_finds_3 ++ dktX5_finds_4
def dkwX5_finds_2 : List UInt8 := [182, 1, 79, 27, 182, 1, 82, 153, 0, 29, 42, 180, 1, 73, 154, 0, 12, 21, 4, 28, 161, 0, 6]
abbrev dktX5_finds_2 : List UInt8 := dkwX5_finds_2 ++ dktX5_finds_3
def dkwX5_finds_1 : List UInt8 := [153, 0, 65, 42, 29, 182, 1, 79, 42, 180, 0, 69, 27, 46, 100, 184, 1, 65, 54, 4, 42, 42, 29]
abbrev dktX5_finds_1 : List UInt8 := dkwX5_finds_1 ++ dktX5_finds_2
def dkwX5_finds_0 : List UInt8 := [42, 2, 181, 1, 73, 3, 61, 4, 62, 29, 42, 180, 1, 62, 162, 0, 74, 42, 27, 3, 182, 1, 76]
abbrev dktX5_finds_0 : List UInt8 := dkwX5_finds_0 ++ dktX5_finds_1
theorem dksX5_finds_0 : cX5_finds.data.toList.drop 0 = dktX5_finds_0 := by decide +kernel
theorem dksX5_finds_1 : cX5_finds.data.toList.drop 23 = dktX5_finds_1 := dk_seg dksX5_finds_0 23 rfl rfl
theorem dksX5_finds_2 : cX5_finds.data.toList.drop 46 = dktX5_finds_2 := dk_seg dksX5_finds_1 23 rfl rfl
theorem dksX5_finds_3 : cX5_finds.data.toList.drop 69 = dktX5_finds_3 := dk_seg dksX5_finds_2 23 rfl rfl
theorem dksX5_finds_4 : cX5_finds.data.toList.drop 92 = dktX5_finds_4 := dk_seg dksX5_finds_3 23 rfl rfl
theorem dksX5_finds_5 : cX5_finds.data.toList.drop 116 = dktX5_finds_5 := dk_seg dksX5_finds_4 24 rfl rfl
theorem dksX5_finds_6 : cX5_finds.data.toList.drop 138 = dktX5_finds_6 := dk_seg dksX5_finds_5 22 rfl rfl
theorem dksX5_finds_7 : cX5_finds.data.toList.drop 162 = dktX5_finds_7 := dk_seg dksX5_finds_6 24 rfl rfl
theorem dksX5_finds_8 : cX5_finds.data.toList.drop 186 = dktX5_finds_8 := dk_seg dksX5_finds_7 24 rfl rfl
theorem dksX5_finds_9 : cX5_finds.data.toList.drop 210 = dktX5_finds_9 := dk_seg dksX5_finds_8 24 rfl rfl
theorem dksX5_finds_10 : cX5_finds.data.toList.drop 234 = dktX5_finds_10 := dk_seg dksX5_finds_9 24 rfl rfl
theorem dksX5_finds_11 : cX5_finds.data.toList.drop 257 = dktX5_finds_11 := dk_seg dksX5_finds_10 23 rfl rfl
theorem dksX5_finds_12 : cX5_finds.data.toList.drop 281 = dktX5_finds_12 := dk_seg dksX5_finds_11 24 rfl rfl
theorem dksX5_finds_13 : cX5_finds.data.toList.drop 304 = dktX5_finds_13 := dk_seg dksX5_finds_12 23 rfl rfl
abbrev cX5_isOf : ByteArray := prog_19_method_61_code
def dkwX5_isOf_1 : List UInt8 := [3, 172]
abbrev dktX5_isOf_1 : List UInt8 := dkwX5_isOf_1 ++ []
def dkwX5_isOf_0 : List UInt8 := [42, 180, 0, 66, 27, 46, 28, 159, 0, 13, 42, 180, 0, 66, 27, 46, 6, 160, 0, 7, 4, 167, 0, 4]
abbrev dktX5_isOf_0 : List UInt8 := dkwX5_isOf_0 ++ dktX5_isOf_1
theorem dksX5_isOf_0 : cX5_isOf.data.toList.drop 0 = dktX5_isOf_0 := by decide +kernel
theorem dksX5_isOf_1 : cX5_isOf.data.toList.drop 24 = dktX5_isOf_1 := dk_seg dksX5_isOf_0 24 rfl rfl
abbrev cX5_fromLeft : ByteArray := prog_19_method_59_code
def dkwX5_fromLeft_0 : List UInt8 := [42, 3, 27, 182, 1, 70, 42, 180, 0, 15, 6, 46, 96, 172]
abbrev dktX5_fromLeft_0 : List UInt8 := dkwX5_fromLeft_0 ++ []
theorem dksX5_fromLeft_0 : cX5_fromLeft.data.toList.drop 0 = dktX5_fromLeft_0 := by decide +kernel
abbrev cX5_weighs : ByteArray := prog_19_method_57_code
def dkwX5_weighs_1 : List UInt8 := [42, 180, 1, 62, 112, 46, 46, 96, 62, 132, 4, 1, 167, 255, 225, 29, 172]
abbrev dktX5_weighs_1 : List UInt8 := dkwX5_weighs_1 ++ []
def dkwX5_weighs_0 : List UInt8 := [3, 62, 3, 54, 4, 21, 4, 28, 162, 0, 31, 29, 42, 180, 0, 49, 42, 180, 0, 85, 27, 21, 4, 96]
abbrev dktX5_weighs_0 : List UInt8 := dkwX5_weighs_0 ++ dktX5_weighs_1
theorem dksX5_weighs_0 : cX5_weighs.data.toList.drop 0 = dktX5_weighs_0 := by decide +kernel
theorem dksX5_weighs_1 : cX5_weighs.data.toList.drop 24 = dktX5_weighs_1 := dk_seg dksX5_weighs_0 24 rfl rfl
abbrev cX5_isNear : ByteArray := prog_19_method_58_code
def dkwX5_isNear_1 : List UInt8 := [3, 172]
abbrev dktX5_isNear_1 : List UInt8 := dkwX5_isNear_1 ++ []
def dkwX5_isNear_0 : List UInt8 := [27, 42, 180, 0, 69, 28, 46, 100, 184, 1, 65, 42, 180, 0, 15, 8, 46, 163, 0, 7, 4, 167, 0, 4]
abbrev dktX5_isNear_0 : List UInt8 := dkwX5_isNear_0 ++ dktX5_isNear_1
theorem dksX5_isNear_0 : cX5_isNear.data.toList.drop 0 = dktX5_isNear_0 := by decide +kernel
theorem dksX5_isNear_1 : cX5_isNear.data.toList.drop 24 = dktX5_isNear_1 := dk_seg dksX5_isNear_0 24 rfl rfl
abbrev cX5_lays : ByteArray := prog_19_method_63_code
def dkwX5_lays_0 : List UInt8 := [42, 27, 181, 1, 73, 42, 28, 181, 1, 94, 42, 29, 181, 1, 97, 177]
abbrev dktX5_lays_0 : List UInt8 := dkwX5_lays_0 ++ []
theorem dksX5_lays_0 : cX5_lays.data.toList.drop 0 = dktX5_lays_0 := by decide +kernel
abbrev cX5_fromRight : ByteArray := prog_19_method_60_code
def dkwX5_fromRight_0 : List UInt8 := [42, 42, 180, 1, 62, 27, 100, 27, 182, 1, 70, 42, 180, 0, 15, 7, 46, 96, 172]
abbrev dktX5_fromRight_0 : List UInt8 := dkwX5_fromRight_0 ++ []
theorem dksX5_fromRight_0 : cX5_fromRight.data.toList.drop 0 = dktX5_fromRight_0 := by decide +kernel
abbrev cX5_looks : ByteArray := prog_19_method_72_code
def dkwX5_looks_1 : List UInt8 := [180, 1, 124, 184, 1, 91, 172]
abbrev dktX5_looks_1 : List UInt8 := dkwX5_looks_1 ++ []
def dkwX5_looks_0 : List UInt8 := [42, 3, 181, 0, 106, 42, 180, 1, 13, 154, 0, 5, 2, 172, 42, 182, 1, 131, 87, 19, 1, 127, 42]
abbrev dktX5_looks_0 : List UInt8 := dkwX5_looks_0 ++ dktX5_looks_1
theorem dksX5_looks_0 : cX5_looks.data.toList.drop 0 = dktX5_looks_0 := by decide +kernel
theorem dksX5_looks_1 : cX5_looks.data.toList.drop 23 = dktX5_looks_1 := dk_seg dksX5_looks_0 23 rfl rfl
abbrev cX5_string : ByteArray := prog_19_method_74_code
def dkwX5_string_3 : List UInt8 := [16, 12, 27, 104, 28, 96, 46, 167, 0, 5, 16, 254, 172]
abbrev dktX5_string_3 : List UInt8 := dkwX5_string_3 ++ []
def dkwX5_string_2 : List UInt8 := [42, 180, 0, 91, 27, 46, 167, 0, 29, 28, 42, 180, 0, 91, 27, 46, 162, 0, 17, 42, 180, 0, 88]
abbrev dktX5_string_2 : List UInt8 := dkwX5_string_2 ++ dktX5_string_3
def dkwX5_string_1 : List UInt8 := [182, 1, 131, 154, 0, 6, 16, 254, 172, 42, 27, 182, 1, 134, 154, 0, 5, 2, 172, 28, 2, 160, 0, 12]
abbrev dktX5_string_1 : List UInt8 := dkwX5_string_1 ++ dktX5_string_2
def dkwX5_string_0 : List UInt8 := [42, 3, 181, 0, 106, 42, 180, 1, 13, 153, 0, 12, 27, 155, 0, 8, 28, 2, 162, 0, 5, 2, 172, 42]
abbrev dktX5_string_0 : List UInt8 := dkwX5_string_0 ++ dktX5_string_1
theorem dksX5_string_0 : cX5_string.data.toList.drop 0 = dktX5_string_0 := by decide +kernel
theorem dksX5_string_1 : cX5_string.data.toList.drop 24 = dktX5_string_1 := dk_seg dksX5_string_0 24 rfl rfl
theorem dksX5_string_2 : cX5_string.data.toList.drop 48 = dktX5_string_2 := dk_seg dksX5_string_1 24 rfl rfl
theorem dksX5_string_3 : cX5_string.data.toList.drop 71 = dktX5_string_3 := dk_seg dksX5_string_2 23 rfl rfl
abbrev cX5_isFound : ByteArray := prog_19_method_73_code
def dkwX5_isFound_0 : List UInt8 := [27, 155, 0, 15, 27, 42, 180, 1, 115, 162, 0, 7, 4, 167, 0, 4, 3, 172]
abbrev dktX5_isFound_0 : List UInt8 := dkwX5_isFound_0 ++ []
theorem dksX5_isFound_0 : cX5_isFound.data.toList.drop 0 = dktX5_isFound_0 := by decide +kernel
abbrev cX5_judge : ByteArray := prog_19_method_75_code
def dkwX5_judge_9 : List UInt8 := [167, 0, 20, 21, 6, 42, 180, 0, 15, 16, 6, 46, 164, 0, 7, 6, 167, 0, 4, 3, 172]
abbrev dktX5_judge_9 : List UInt8 := dkwX5_judge_9 ++ []
def dkwX5_judge_8 : List UInt8 := [180, 1, 100, 167, 0, 5, 21, 6, 172, 42, 3, 27, 182, 1, 70, 42, 180, 1, 13, 159, 0, 7, 5]
abbrev dktX5_judge_8 : List UInt8 := dkwX5_judge_8 ++ dktX5_judge_9
def dkwX5_judge_7 : List UInt8 := [167, 0, 4, 2, 172, 42, 182, 1, 112, 54, 6, 21, 4, 158, 0, 19, 21, 4, 4, 160, 0, 10, 42]
abbrev dktX5_judge_7 : List UInt8 := dkwX5_judge_7 ++ dktX5_judge_8
def dkwX5_judge_6 : List UInt8 := [16, 7, 46, 163, 0, 7, 4, 167, 0, 4, 3, 54, 5, 21, 5, 154, 0, 14, 21, 4, 154, 0, 7, 4]
abbrev dktX5_judge_6 : List UInt8 := dkwX5_judge_6 ++ dktX5_judge_7
def dkwX5_judge_5 : List UInt8 := [27, 181, 1, 62, 21, 5, 153, 0, 28, 42, 182, 1, 109, 153, 0, 21, 42, 182, 1, 139, 42, 180, 0, 15]
abbrev dktX5_judge_5 : List UInt8 := dkwX5_judge_5 ++ dktX5_judge_6
def dkwX5_judge_4 : List UInt8 := [180, 0, 85, 21, 6, 4, 100, 46, 182, 1, 26, 154, 0, 6, 3, 54, 5, 132, 6, 1, 167, 255, 185, 42]
abbrev dktX5_judge_4 : List UInt8 := dkwX5_judge_4 ++ dktX5_judge_5
def dkwX5_judge_3 : List UInt8 := [79, 42, 21, 7, 182, 1, 23, 153, 0, 31, 21, 5, 153, 0, 29, 21, 6, 158, 0, 24, 42, 21, 7, 42]
abbrev dktX5_judge_3 : List UInt8 := dkwX5_judge_3 ++ dktX5_judge_4
def dkwX5_judge_2 : List UInt8 := [162, 0, 71, 32, 7, 21, 6, 104, 123, 20, 1, 137, 127, 136, 54, 7, 42, 180, 0, 85, 21, 6, 21, 7]
abbrev dktX5_judge_2 : List UInt8 := dkwX5_judge_2 ++ dktX5_judge_3
def dkwX5_judge_1 : List UInt8 := [21, 4, 155, 0, 9, 21, 4, 5, 164, 0, 5, 2, 172, 4, 54, 5, 3, 54, 6, 21, 6, 27]
abbrev dktX5_judge_1 : List UInt8 := dkwX5_judge_1 ++ dktX5_judge_2
def dkwX5_judge_0 : List UInt8 := [42, 3, 181, 0, 106, 42, 180, 1, 13, 153, 0, 25, 27, 4, 161, 0, 20, 27, 16, 12, 163, 0, 14]
abbrev dktX5_judge_0 : List UInt8 := dkwX5_judge_0 ++ dktX5_judge_1
theorem dksX5_judge_0 : cX5_judge.data.toList.drop 0 = dktX5_judge_0 := by decide +kernel
theorem dksX5_judge_1 : cX5_judge.data.toList.drop 23 = dktX5_judge_1 := dk_seg dksX5_judge_0 23 rfl rfl
theorem dksX5_judge_2 : cX5_judge.data.toList.drop 45 = dktX5_judge_2 := dk_seg dksX5_judge_1 22 rfl rfl
theorem dksX5_judge_3 : cX5_judge.data.toList.drop 69 = dktX5_judge_3 := dk_seg dksX5_judge_2 24 rfl rfl
theorem dksX5_judge_4 : cX5_judge.data.toList.drop 93 = dktX5_judge_4 := dk_seg dksX5_judge_3 24 rfl rfl
theorem dksX5_judge_5 : cX5_judge.data.toList.drop 117 = dktX5_judge_5 := dk_seg dksX5_judge_4 24 rfl rfl
theorem dksX5_judge_6 : cX5_judge.data.toList.drop 141 = dktX5_judge_6 := dk_seg dksX5_judge_5 24 rfl rfl
theorem dksX5_judge_7 : cX5_judge.data.toList.drop 165 = dktX5_judge_7 := dk_seg dksX5_judge_6 24 rfl rfl
theorem dksX5_judge_8 : cX5_judge.data.toList.drop 188 = dktX5_judge_8 := dk_seg dksX5_judge_7 23 rfl rfl
theorem dksX5_judge_9 : cX5_judge.data.toList.drop 211 = dktX5_judge_9 := dk_seg dksX5_judge_8 23 rfl rfl
abbrev cX5_dusted : ByteArray := prog_19_method_66_code
def dkwX5_dusted_1 : List UInt8 := [60, 132, 2, 1, 167, 255, 232, 27, 172]
abbrev dktX5_dusted_1 : List UInt8 := dkwX5_dusted_1 ++ []
def dkwX5_dusted_0 : List UInt8 := [3, 60, 3, 61, 28, 42, 180, 1, 62, 162, 0, 22, 27, 42, 42, 180, 0, 85, 28, 46, 182, 1, 46, 96]
abbrev dktX5_dusted_0 : List UInt8 := dkwX5_dusted_0 ++ dktX5_dusted_1
theorem dksX5_dusted_0 : cX5_dusted.data.toList.drop 0 = dktX5_dusted_0 := by decide +kernel
theorem dksX5_dusted_1 : cX5_dusted.data.toList.drop 24 = dktX5_dusted_1 := dk_seg dksX5_dusted_0 24 rfl rfl
abbrev cX5_whence : ByteArray := prog_19_method_76_code
def dkwX5_whence_8 : List UInt8 := [100, 172]
abbrev dktX5_whence_8 : List UInt8 := dkwX5_whence_8 ++ []
def dkwX5_whence_7 : List UInt8 := [182, 1, 88, 167, 0, 15, 42, 42, 180, 1, 94, 42, 180, 1, 97, 182, 1, 70, 42, 180, 0, 69, 28, 46]
abbrev dktX5_whence_7 : List UInt8 := dkwX5_whence_7 ++ dktX5_whence_8
def dkwX5_whence_6 : List UInt8 := [180, 1, 97, 182, 1, 79, 167, 0, 34, 42, 180, 1, 73, 4, 160, 0, 14, 42, 42, 180, 1, 97]
abbrev dktX5_whence_6 : List UInt8 := dkwX5_whence_6 ++ dktX5_whence_7
def dkwX5_whence_5 : List UInt8 := [42, 180, 1, 73, 172, 42, 180, 1, 94, 172, 42, 180, 1, 97, 172, 42, 180, 1, 73, 154, 0, 14, 42, 42]
abbrev dktX5_whence_5 : List UInt8 := dkwX5_whence_5 ++ dktX5_whence_6
def dkwX5_whence_4 : List UInt8 := [170, 0, 0, 0, 40, 0, 0, 0, 0, 0, 0, 0, 2, 0, 0, 0, 25, 0, 0, 0, 30, 0, 0, 0, 35]
abbrev dktX5_whence_4 : List UInt8 := dkwX5_whence_4 ++ dktX5_whence_5
def dkwX5_whence_3 : List UInt8 := [29]
abbrev dktX5_whence_3 : List UInt8 := dkwX5_whence_3 ++ dktX5_whence_4
def dkwX5_whence_2 : List UInt8 := [154, 0, 7, 19, 1, 142, 172, 42, 27, 182, 1, 143, 42, 28, 182, 1, 106, 154, 0, 7, 19, 1, 142, 172]
abbrev dktX5_whence_2 : List UInt8 := dkwX5_whence_2 ++ dktX5_whence_3
def dkwX5_whence_1 : List UInt8 := [162, 0, 26, 42, 28, 182, 1, 103, 153, 0, 18, 42, 182, 1, 131, 153, 0, 11, 42, 27, 182, 1, 134]
abbrev dktX5_whence_1 : List UInt8 := dkwX5_whence_1 ++ dktX5_whence_2
def dkwX5_whence_0 : List UInt8 := [42, 3, 181, 0, 106, 29, 155, 0, 43, 29, 6, 163, 0, 38, 28, 155, 0, 34, 28, 42, 180, 1, 16]
abbrev dktX5_whence_0 : List UInt8 := dkwX5_whence_0 ++ dktX5_whence_1
theorem dksX5_whence_0 : cX5_whence.data.toList.drop 0 = dktX5_whence_0 := by decide +kernel
theorem dksX5_whence_1 : cX5_whence.data.toList.drop 23 = dktX5_whence_1 := dk_seg dksX5_whence_0 23 rfl rfl
theorem dksX5_whence_2 : cX5_whence.data.toList.drop 46 = dktX5_whence_2 := dk_seg dksX5_whence_1 23 rfl rfl
theorem dksX5_whence_3 : cX5_whence.data.toList.drop 70 = dktX5_whence_3 := dk_seg dksX5_whence_2 24 rfl rfl
theorem dksX5_whence_4 : cX5_whence.data.toList.drop 71 = dktX5_whence_4 := dk_seg dksX5_whence_3 1 rfl rfl
theorem dksX5_whence_5 : cX5_whence.data.toList.drop 96 = dktX5_whence_5 := dk_seg dksX5_whence_4 25 rfl rfl
theorem dksX5_whence_6 : cX5_whence.data.toList.drop 120 = dktX5_whence_6 := dk_seg dksX5_whence_5 24 rfl rfl
theorem dksX5_whence_7 : cX5_whence.data.toList.drop 142 = dktX5_whence_7 := dk_seg dksX5_whence_6 22 rfl rfl
theorem dksX5_whence_8 : cX5_whence.data.toList.drop 166 = dktX5_whence_8 := dk_seg dksX5_whence_7 24 rfl rfl
abbrev cX5_takes : ByteArray := prog_19_method_70_code
def dkwX5_takes_1 : List UInt8 := [28, 42, 180, 0, 88, 16, 12, 27, 104, 28, 96, 46, 79, 132, 2, 1, 167, 255, 228, 177]
abbrev dktX5_takes_1 : List UInt8 := dkwX5_takes_1 ++ []
def dkwX5_takes_0 : List UInt8 := [42, 42, 180, 0, 91, 27, 46, 181, 1, 62, 3, 61, 28, 42, 180, 1, 62, 162, 0, 26, 42, 180, 0, 85]
abbrev dktX5_takes_0 : List UInt8 := dkwX5_takes_0 ++ dktX5_takes_1
theorem dksX5_takes_0 : cX5_takes.data.toList.drop 0 = dktX5_takes_0 := by decide +kernel
theorem dksX5_takes_1 : cX5_takes.data.toList.drop 24 = dktX5_takes_1 := dk_seg dksX5_takes_0 24 rfl rfl
abbrev cX5_score : ByteArray := prog_19_method_80_code
def dkwX5_score_1 : List UInt8 := [167, 0, 8, 42, 27, 182, 1, 170, 173]
abbrev dktX5_score_1 : List UInt8 := dkwX5_score_1 ++ []
def dkwX5_score_0 : List UInt8 := [42, 3, 181, 0, 106, 42, 182, 1, 131, 153, 0, 11, 42, 27, 182, 1, 134, 154, 0, 9, 20, 1, 168]
abbrev dktX5_score_0 : List UInt8 := dkwX5_score_0 ++ dktX5_score_1
theorem dksX5_score_0 : cX5_score.data.toList.drop 0 = dktX5_score_0 := by decide +kernel
theorem dksX5_score_1 : cX5_score.data.toList.drop 23 = dktX5_score_1 := dk_seg dksX5_score_0 23 rfl rfl
abbrev cX5_scoreOf : ByteArray := prog_19_method_79_code
def dkwX5_scoreOf_9 : List UInt8 := [47, 173]
abbrev dktX5_scoreOf_9 : List UInt8 := dkwX5_scoreOf_9 ++ []
def dkwX5_scoreOf_8 : List UInt8 := [46, 47, 80, 42, 89, 180, 1, 146, 4, 96, 181, 1, 146, 132, 4, 1, 167, 255, 162, 42, 180, 0, 97, 3]
abbrev dktX5_scoreOf_8 : List UInt8 := dkwX5_scoreOf_8 ++ dktX5_scoreOf_9
def dkwX5_scoreOf_7 : List UInt8 := [154, 0, 14, 42, 180, 0, 42, 21, 4, 46, 133, 167, 0, 15, 42, 180, 0, 94, 42, 180, 0, 42, 21, 4]
abbrev dktX5_scoreOf_7 : List UInt8 := dkwX5_scoreOf_7 ++ dktX5_scoreOf_8
def dkwX5_scoreOf_6 : List UInt8 := [182, 1, 163, 154, 0, 57, 9, 173, 42, 180, 0, 97, 42, 180, 1, 146, 42, 180, 0, 39, 21, 4, 46]
abbrev dktX5_scoreOf_6 : List UInt8 := dkwX5_scoreOf_6 ++ dktX5_scoreOf_7
def dkwX5_scoreOf_5 : List UInt8 := [162, 0, 88, 42, 180, 0, 39, 21, 4, 46, 5, 160, 0, 19, 42, 42, 180, 0, 42, 21, 4, 46]
abbrev dktX5_scoreOf_5 : List UInt8 := dkwX5_scoreOf_5 ++ dktX5_scoreOf_6
def dkwX5_scoreOf_4 : List UInt8 := [180, 1, 13, 133, 80, 42, 3, 181, 1, 146, 3, 54, 4, 21, 4, 42, 180, 0, 15, 16, 9, 46]
abbrev dktX5_scoreOf_4 : List UInt8 := dkwX5_scoreOf_4 ++ dktX5_scoreOf_5
def dkwX5_scoreOf_3 : List UInt8 := [180, 1, 62, 133, 80, 42, 180, 0, 94, 7, 42, 182, 1, 139, 133, 80, 42, 180, 0, 94, 8, 42]
abbrev dktX5_scoreOf_3 : List UInt8 := dkwX5_scoreOf_3 ++ dktX5_scoreOf_4
def dkwX5_scoreOf_2 : List UInt8 := [180, 1, 62, 4, 100, 104, 28, 100, 133, 80, 42, 180, 0, 94, 5, 29, 133, 80, 42, 180, 0, 94, 6, 42]
abbrev dktX5_scoreOf_2 : List UInt8 := dkwX5_scoreOf_2 ++ dktX5_scoreOf_3
def dkwX5_scoreOf_1 : List UInt8 := [154, 0, 8, 28, 29, 100, 133, 173, 42, 180, 0, 94, 3, 28, 133, 80, 42, 180, 0, 94, 4, 5, 42]
abbrev dktX5_scoreOf_1 : List UInt8 := dkwX5_scoreOf_1 ++ dktX5_scoreOf_2
def dkwX5_scoreOf_0 : List UInt8 := [42, 27, 182, 1, 143, 42, 182, 1, 160, 61, 42, 182, 1, 112, 62, 42, 180, 0, 15, 16, 9, 46]
abbrev dktX5_scoreOf_0 : List UInt8 := dkwX5_scoreOf_0 ++ dktX5_scoreOf_1
theorem dksX5_scoreOf_0 : cX5_scoreOf.data.toList.drop 0 = dktX5_scoreOf_0 := by decide +kernel
theorem dksX5_scoreOf_1 : cX5_scoreOf.data.toList.drop 22 = dktX5_scoreOf_1 := dk_seg dksX5_scoreOf_0 22 rfl rfl
theorem dksX5_scoreOf_2 : cX5_scoreOf.data.toList.drop 45 = dktX5_scoreOf_2 := dk_seg dksX5_scoreOf_1 23 rfl rfl
theorem dksX5_scoreOf_3 : cX5_scoreOf.data.toList.drop 69 = dktX5_scoreOf_3 := dk_seg dksX5_scoreOf_2 24 rfl rfl
theorem dksX5_scoreOf_4 : cX5_scoreOf.data.toList.drop 91 = dktX5_scoreOf_4 := dk_seg dksX5_scoreOf_3 22 rfl rfl
theorem dksX5_scoreOf_5 : cX5_scoreOf.data.toList.drop 113 = dktX5_scoreOf_5 := dk_seg dksX5_scoreOf_4 22 rfl rfl
theorem dksX5_scoreOf_6 : cX5_scoreOf.data.toList.drop 135 = dktX5_scoreOf_6 := dk_seg dksX5_scoreOf_5 22 rfl rfl
theorem dksX5_scoreOf_7 : cX5_scoreOf.data.toList.drop 158 = dktX5_scoreOf_7 := dk_seg dksX5_scoreOf_6 23 rfl rfl
theorem dksX5_scoreOf_8 : cX5_scoreOf.data.toList.drop 182 = dktX5_scoreOf_8 := dk_seg dksX5_scoreOf_7 24 rfl rfl
theorem dksX5_scoreOf_9 : cX5_scoreOf.data.toList.drop 206 = dktX5_scoreOf_9 := dk_seg dksX5_scoreOf_8 24 rfl rfl
abbrev cX5_came : ByteArray := prog_19_method_65_code
def dkwX5_came_6 : List UInt8 := [167, 255, 121, 27, 172]
abbrev dktX5_came_6 : List UInt8 := dkwX5_came_6 ++ []
def dkwX5_came_5 : List UInt8 := [153, 0, 7, 4, 167, 0, 4, 3, 21, 4, 153, 0, 7, 4, 167, 0, 4, 3, 96, 96, 60, 132, 2, 1]
abbrev dktX5_came_5 : List UInt8 := dkwX5_came_5 ++ dktX5_came_6
def dkwX5_came_4 : List UInt8 := [182, 1, 82, 153, 0, 7, 4, 167, 0, 4, 3, 128, 54, 4, 132, 5, 1, 167, 255, 166, 27, 29]
abbrev dktX5_came_4 : List UInt8 := dkwX5_came_4 ++ dktX5_came_5
def dkwX5_came_3 : List UInt8 := [3, 128, 62, 21, 4, 42, 21, 5, 4, 182, 1, 76, 153, 0, 21, 42, 42, 28, 182, 1, 88, 21, 5]
abbrev dktX5_came_3 : List UInt8 := dkwX5_came_3 ++ dktX5_came_4
def dkwX5_came_2 : List UInt8 := [182, 1, 76, 153, 0, 21, 42, 42, 28, 182, 1, 79, 21, 5, 182, 1, 82, 153, 0, 7, 4, 167, 0, 4]
abbrev dktX5_came_2 : List UInt8 := dkwX5_came_2 ++ dktX5_came_3
def dkwX5_came_1 : List UInt8 := [180, 1, 16, 162, 0, 87, 42, 21, 5, 182, 1, 103, 154, 0, 6, 167, 0, 69, 29, 42, 21, 5, 3]
abbrev dktX5_came_1 : List UInt8 := dkwX5_came_1 ++ dktX5_came_2
def dkwX5_came_0 : List UInt8 := [3, 60, 4, 61, 28, 42, 180, 1, 62, 162, 0, 133, 3, 62, 3, 54, 4, 3, 54, 5, 21, 5, 42]
abbrev dktX5_came_0 : List UInt8 := dkwX5_came_0 ++ dktX5_came_1
theorem dksX5_came_0 : cX5_came.data.toList.drop 0 = dktX5_came_0 := by decide +kernel
theorem dksX5_came_1 : cX5_came.data.toList.drop 23 = dktX5_came_1 := dk_seg dksX5_came_0 23 rfl rfl
theorem dksX5_came_2 : cX5_came.data.toList.drop 46 = dktX5_came_2 := dk_seg dksX5_came_1 23 rfl rfl
theorem dksX5_came_3 : cX5_came.data.toList.drop 70 = dktX5_came_3 := dk_seg dksX5_came_2 24 rfl rfl
theorem dksX5_came_4 : cX5_came.data.toList.drop 93 = dktX5_came_4 := dk_seg dksX5_came_3 23 rfl rfl
theorem dksX5_came_5 : cX5_came.data.toList.drop 115 = dktX5_came_5 := dk_seg dksX5_came_4 22 rfl rfl
theorem dksX5_came_6 : cX5_came.data.toList.drop 139 = dktX5_came_6 := dk_seg dksX5_came_5 24 rfl rfl
abbrev cX5_works : ByteArray := prog_19_method_78_code
def dkwX5_works_15 : List UInt8 := [157, 0, 16, 22, 6, 20, 1, 158, 148, 155, 0, 7, 4, 167, 0, 4, 3, 172]
abbrev dktX5_works_15 : List UInt8 := dkwX5_works_15 ++ []
def dkwX5_works_14 : List UInt8 := [184, 1, 149, 55, 6, 42, 180, 0, 97, 42, 180, 1, 146, 4, 100, 22, 6, 80, 22, 6, 20, 1, 156, 148]
abbrev dktX5_works_14 : List UInt8 := dkwX5_works_14 ++ dktX5_works_15
def dkwX5_works_13 : List UInt8 := [55, 6, 167, 0, 26, 22, 4, 9, 148, 154, 0, 9, 32, 9, 148, 153, 0, 7, 4, 167, 0, 4, 3]
abbrev dktX5_works_13 : List UInt8 := dkwX5_works_13 ++ dktX5_works_14
def dkwX5_works_12 : List UInt8 := [167, 0, 52, 22, 4, 9, 148, 153, 0, 13, 32, 9, 148, 153, 0, 7, 4, 167, 0, 4, 3, 184, 1, 149]
abbrev dktX5_works_12 : List UInt8 := dkwX5_works_12 ++ dktX5_works_13
def dkwX5_works_11 : List UInt8 := [55, 6, 167, 0, 72, 22, 4, 32, 148, 153, 0, 7, 4, 167, 0, 4, 3, 184, 1, 149, 55, 6]
abbrev dktX5_works_11 : List UInt8 := dkwX5_works_11 ++ dktX5_works_12
def dkwX5_works_10 : List UInt8 := [184, 1, 149, 55, 6, 167, 0, 92, 22, 4, 32, 148, 155, 0, 7, 4, 167, 0, 4, 3, 184, 1, 149]
abbrev dktX5_works_10 : List UInt8 := dkwX5_works_10 ++ dktX5_works_11
def dkwX5_works_9 : List UInt8 := [167, 0, 4, 3, 184, 1, 149, 55, 6, 167, 0, 112, 22, 4, 32, 148, 157, 0, 7, 4, 167, 0, 4, 3]
abbrev dktX5_works_9 : List UInt8 := dkwX5_works_9 ++ dktX5_works_10
def dkwX5_works_8 : List UInt8 := [158, 0, 7, 4, 167, 0, 4, 3, 184, 1, 149, 55, 6, 167, 0, 132, 22, 4, 32, 148, 154, 0, 7, 4]
abbrev dktX5_works_8 : List UInt8 := dkwX5_works_8 ++ dktX5_works_9
def dkwX5_works_7 : List UInt8 := [22, 4, 32, 148, 156, 0, 7, 4, 167, 0, 4, 3, 184, 1, 149, 55, 6, 167, 0, 152, 22, 4, 32, 148]
abbrev dktX5_works_7 : List UInt8 := dkwX5_works_7 ++ dktX5_works_8
def dkwX5_works_6 : List UInt8 := [32, 105, 55, 6, 167, 0, 189, 32, 9, 148, 154, 0, 5, 3, 172, 22, 4, 32, 109, 55, 6, 167, 0, 172]
abbrev dktX5_works_6 : List UInt8 := dkwX5_works_6 ++ dktX5_works_7
def dkwX5_works_5 : List UInt8 := [153, 0, 22, 32, 184, 1, 153, 20, 1, 156, 22, 4, 184, 1, 153, 109, 148, 158, 0, 5, 3, 172, 22, 4]
abbrev dktX5_works_5 : List UInt8 := dkwX5_works_5 ++ dktX5_works_6
def dkwX5_works_4 : List UInt8 := [22, 4, 32, 97, 55, 6, 167, 0, 233, 22, 4, 32, 101, 55, 6, 167, 0, 224, 22, 4, 9, 148]
abbrev dktX5_works_4 : List UInt8 := dkwX5_works_4 ++ dktX5_works_5
def dkwX5_works_3 : List UInt8 := [171, 0, 0, 0, 1, 58, 0, 0, 0, 11, 0, 0, 0, 42, 0, 0, 0, 116, 0, 0, 0, 43, 0, 0, 0, 98, 0, 0, 0, 45, 0, 0, 0, 107, 0, 0, 0, 47, 0, 0, 0, 151, 0, 0, 0, 60, 0, 0, 0, 168, 0, 0, 0, 61, 0, 0, 0, 208, 0, 0, 0, 62, 0, 0, 0, 188, 0, 0, 1, 0, 0, 0, 0, 228, 0, 0, 1, 1, 0, 0, 1, 12, 0, 0, 1, 2, 0, 0, 0, 248, 0, 0, 1, 5, 0, 0, 1, 32]
abbrev dktX5_works_3 : List UInt8 := dkwX5_works_3 ++ dktX5_works_4
def dkwX5_works_2 : List UInt8 := [180, 0, 97, 42, 180, 1, 146, 5, 100, 47, 55, 4, 42, 89, 180, 1, 146, 4, 100, 181, 1, 146, 27]
abbrev dktX5_works_2 : List UInt8 := dkwX5_works_2 ++ dktX5_works_3
def dkwX5_works_1 : List UInt8 := [180, 1, 146, 4, 100, 32, 9, 148, 154, 0, 7, 4, 167, 0, 4, 3, 184, 1, 149, 80, 4, 172, 42]
abbrev dktX5_works_1 : List UInt8 := dkwX5_works_1 ++ dktX5_works_2
def dkwX5_works_0 : List UInt8 := [42, 180, 0, 97, 42, 180, 1, 146, 4, 100, 47, 65, 27, 17, 1, 4, 160, 0, 30, 42, 180, 0, 97, 42]
abbrev dktX5_works_0 : List UInt8 := dkwX5_works_0 ++ dktX5_works_1
theorem dksX5_works_0 : cX5_works.data.toList.drop 0 = dktX5_works_0 := by decide +kernel
theorem dksX5_works_1 : cX5_works.data.toList.drop 24 = dktX5_works_1 := dk_seg dksX5_works_0 24 rfl rfl
theorem dksX5_works_2 : cX5_works.data.toList.drop 47 = dktX5_works_2 := dk_seg dksX5_works_1 23 rfl rfl
theorem dksX5_works_3 : cX5_works.data.toList.drop 70 = dktX5_works_3 := dk_seg dksX5_works_2 23 rfl rfl
theorem dksX5_works_4 : cX5_works.data.toList.drop 168 = dktX5_works_4 := dk_seg dksX5_works_3 98 rfl rfl
theorem dksX5_works_5 : cX5_works.data.toList.drop 190 = dktX5_works_5 := dk_seg dksX5_works_4 22 rfl rfl
theorem dksX5_works_6 : cX5_works.data.toList.drop 214 = dktX5_works_6 := dk_seg dksX5_works_5 24 rfl rfl
theorem dksX5_works_7 : cX5_works.data.toList.drop 238 = dktX5_works_7 := dk_seg dksX5_works_6 24 rfl rfl
theorem dksX5_works_8 : cX5_works.data.toList.drop 262 = dktX5_works_8 := dk_seg dksX5_works_7 24 rfl rfl
theorem dksX5_works_9 : cX5_works.data.toList.drop 286 = dktX5_works_9 := dk_seg dksX5_works_8 24 rfl rfl
theorem dksX5_works_10 : cX5_works.data.toList.drop 310 = dktX5_works_10 := dk_seg dksX5_works_9 24 rfl rfl
theorem dksX5_works_11 : cX5_works.data.toList.drop 333 = dktX5_works_11 := dk_seg dksX5_works_10 23 rfl rfl
theorem dksX5_works_12 : cX5_works.data.toList.drop 355 = dktX5_works_12 := dk_seg dksX5_works_11 22 rfl rfl
theorem dksX5_works_13 : cX5_works.data.toList.drop 379 = dktX5_works_13 := dk_seg dksX5_works_12 24 rfl rfl
theorem dksX5_works_14 : cX5_works.data.toList.drop 402 = dktX5_works_14 := dk_seg dksX5_works_13 23 rfl rfl
theorem dksX5_works_15 : cX5_works.data.toList.drop 426 = dktX5_works_15 := dk_seg dksX5_works_14 24 rfl rfl
abbrev cX5_is : ByteArray := prog_19_method_77_code
def dkwX5_is_0 : List UInt8 := [26, 153, 0, 7, 10, 167, 0, 4, 9, 173]
abbrev dktX5_is_0 : List UInt8 := dkwX5_is_0 ++ []
theorem dksX5_is_0 : cX5_is.data.toList.drop 0 = dktX5_is_0 := by decide +kernel
abbrev cX5_rank : ByteArray := prog_19_method_82_code
def dkwX5_rank_5 : List UInt8 := [132, 4, 1, 167, 255, 196, 29, 27, 160, 0, 5, 28, 172, 132, 2, 1, 167, 255, 170, 2, 172]
abbrev dktX5_rank_5 : List UInt8 := dkwX5_rank_5 ++ []
def dkwX5_rank_4 : List UInt8 := [180, 0, 100, 28, 47, 148, 154, 0, 13, 21, 4, 28, 162, 0, 7, 4, 167, 0, 4, 3, 96, 62]
abbrev dktX5_rank_4 : List UInt8 := dkwX5_rank_4 ++ dktX5_rank_5
def dkwX5_rank_3 : List UInt8 := [180, 0, 100, 21, 4, 47, 42, 180, 0, 100, 28, 47, 148, 157, 0, 26, 42, 180, 0, 100, 21, 4, 47, 42]
abbrev dktX5_rank_3 : List UInt8 := dkwX5_rank_3 ++ dktX5_rank_4
def dkwX5_rank_2 : List UInt8 := [180, 1, 115, 162, 0, 84, 3, 62, 3, 54, 4, 21, 4, 42, 180, 1, 115, 162, 0, 57, 29, 42]
abbrev dktX5_rank_2 : List UInt8 := dkwX5_rank_2 ++ dktX5_rank_3
def dkwX5_rank_1 : List UInt8 := [154, 0, 6, 16, 254, 172, 42, 27, 182, 1, 134, 154, 0, 5, 2, 172, 42, 182, 1, 174, 3, 61, 28, 42]
abbrev dktX5_rank_1 : List UInt8 := dkwX5_rank_1 ++ dktX5_rank_2
def dkwX5_rank_0 : List UInt8 := [42, 3, 181, 0, 106, 42, 180, 1, 13, 153, 0, 7, 27, 156, 0, 5, 2, 172, 42, 182, 1, 131]
abbrev dktX5_rank_0 : List UInt8 := dkwX5_rank_0 ++ dktX5_rank_1
theorem dksX5_rank_0 : cX5_rank.data.toList.drop 0 = dktX5_rank_0 := by decide +kernel
theorem dksX5_rank_1 : cX5_rank.data.toList.drop 22 = dktX5_rank_1 := dk_seg dksX5_rank_0 22 rfl rfl
theorem dksX5_rank_2 : cX5_rank.data.toList.drop 46 = dktX5_rank_2 := dk_seg dksX5_rank_1 24 rfl rfl
theorem dksX5_rank_3 : cX5_rank.data.toList.drop 68 = dktX5_rank_3 := dk_seg dksX5_rank_2 22 rfl rfl
theorem dksX5_rank_4 : cX5_rank.data.toList.drop 92 = dktX5_rank_4 := dk_seg dksX5_rank_3 24 rfl rfl
theorem dksX5_rank_5 : cX5_rank.data.toList.drop 114 = dktX5_rank_5 := dk_seg dksX5_rank_4 22 rfl rfl
abbrev cX5_scoreAll : ByteArray := prog_19_method_81_code
def dkwX5_scoreAll_1 : List UInt8 := [167, 255, 234, 177]
abbrev dktX5_scoreAll_1 : List UInt8 := dkwX5_scoreAll_1 ++ []
def dkwX5_scoreAll_0 : List UInt8 := [3, 60, 27, 42, 180, 1, 115, 162, 0, 20, 42, 180, 0, 100, 27, 42, 27, 182, 1, 170, 80, 132, 1, 1]
abbrev dktX5_scoreAll_0 : List UInt8 := dkwX5_scoreAll_0 ++ dktX5_scoreAll_1
theorem dksX5_scoreAll_0 : cX5_scoreAll.data.toList.drop 0 = dktX5_scoreAll_0 := by decide +kernel
theorem dksX5_scoreAll_1 : cX5_scoreAll.data.toList.drop 24 = dktX5_scoreAll_1 := dk_seg dksX5_scoreAll_0 24 rfl rfl
abbrev cX5_ties : ByteArray := prog_19_method_83_code
def dkwX5_ties_4 : List UInt8 := [167, 255, 194, 27, 172]
abbrev dktX5_ties_4 : List UInt8 := dkwX5_ties_4 ++ []
def dkwX5_ties_3 : List UInt8 := [62, 132, 4, 1, 167, 255, 225, 27, 29, 153, 0, 7, 4, 167, 0, 4, 3, 96, 60, 132, 2, 1]
abbrev dktX5_ties_3 : List UInt8 := dkwX5_ties_3 ++ dktX5_ties_4
def dkwX5_ties_2 : List UInt8 := [180, 1, 115, 162, 0, 28, 42, 180, 0, 100, 21, 4, 47, 42, 180, 0, 100, 28, 47, 148, 158, 0, 5, 3]
abbrev dktX5_ties_2 : List UInt8 := dkwX5_ties_2 ++ dktX5_ties_3
def dkwX5_ties_1 : List UInt8 := [42, 182, 1, 174, 3, 60, 3, 61, 28, 42, 180, 1, 115, 162, 0, 60, 4, 62, 3, 54, 4, 21, 4, 42]
abbrev dktX5_ties_1 : List UInt8 := dkwX5_ties_1 ++ dktX5_ties_2
def dkwX5_ties_0 : List UInt8 := [42, 3, 181, 0, 106, 42, 180, 1, 13, 154, 0, 5, 2, 172, 42, 182, 1, 131, 154, 0, 6, 16, 254, 172]
abbrev dktX5_ties_0 : List UInt8 := dkwX5_ties_0 ++ dktX5_ties_1
theorem dksX5_ties_0 : cX5_ties.data.toList.drop 0 = dktX5_ties_0 := by decide +kernel
theorem dksX5_ties_1 : cX5_ties.data.toList.drop 24 = dktX5_ties_1 := dk_seg dksX5_ties_0 24 rfl rfl
theorem dksX5_ties_2 : cX5_ties.data.toList.drop 48 = dktX5_ties_2 := dk_seg dksX5_ties_1 24 rfl rfl
theorem dksX5_ties_3 : cX5_ties.data.toList.drop 72 = dktX5_ties_3 := dk_seg dksX5_ties_2 24 rfl rfl
theorem dksX5_ties_4 : cX5_ties.data.toList.drop 94 = dktX5_ties_4 := dk_seg dksX5_ties_3 22 rfl rfl
abbrev cX5_has : ByteArray := prog_19_method_84_code
def dkwX5_has_4 : List UInt8 := [167, 0, 7, 42, 182, 1, 139, 172]
abbrev dktX5_has_4 : List UInt8 := dkwX5_has_4 ++ []
def dkwX5_has_3 : List UInt8 := [180, 1, 62, 4, 100, 104, 42, 182, 1, 160, 100, 167, 0, 19, 28, 5, 160, 0, 10, 42, 182, 1, 112]
abbrev dktX5_has_3 : List UInt8 := dkwX5_has_3 ++ dktX5_has_4
def dkwX5_has_2 : List UInt8 := [172, 42, 27, 182, 1, 143, 28, 154, 0, 10, 42, 182, 1, 160, 167, 0, 40, 28, 4, 160, 0, 19, 5, 42]
abbrev dktX5_has_2 : List UInt8 := dkwX5_has_2 ++ dktX5_has_3
def dkwX5_has_1 : List UInt8 := [164, 0, 5, 2, 172, 42, 182, 1, 131, 154, 0, 6, 16, 254, 172, 42, 27, 182, 1, 134, 154, 0, 5, 2]
abbrev dktX5_has_1 : List UInt8 := dkwX5_has_1 ++ dktX5_has_2
def dkwX5_has_0 : List UInt8 := [42, 3, 181, 0, 106, 42, 180, 1, 13, 153, 0, 16, 27, 155, 0, 12, 28, 155, 0, 8, 28, 6]
abbrev dktX5_has_0 : List UInt8 := dkwX5_has_0 ++ dktX5_has_1
theorem dksX5_has_0 : cX5_has.data.toList.drop 0 = dktX5_has_0 := by decide +kernel
theorem dksX5_has_1 : cX5_has.data.toList.drop 22 = dktX5_has_1 := dk_seg dksX5_has_0 22 rfl rfl
theorem dksX5_has_2 : cX5_has.data.toList.drop 46 = dktX5_has_2 := dk_seg dksX5_has_1 24 rfl rfl
theorem dksX5_has_3 : cX5_has.data.toList.drop 70 = dktX5_has_3 := dk_seg dksX5_has_2 24 rfl rfl
theorem dksX5_has_4 : cX5_has.data.toList.drop 93 = dktX5_has_4 := dk_seg dksX5_has_3 23 rfl rfl
abbrev cX5_tree : ByteArray := prog_19_method_89_code
def dkwX5_tree_6 : List UInt8 := [112, 4, 96, 172, 132, 4, 1, 167, 255, 184, 16, 254, 172]
abbrev dktX5_tree_6 : List UInt8 := dkwX5_tree_6 ++ []
def dkwX5_tree_5 : List UInt8 := [167, 0, 27, 27, 4, 160, 0, 13, 42, 180, 1, 189, 16, 11, 108, 167, 0, 12, 42, 180, 1, 189, 16, 11]
abbrev dktX5_tree_5 : List UInt8 := dkwX5_tree_5 ++ dktX5_tree_6
def dkwX5_tree_4 : List UInt8 := [154, 0, 6, 167, 0, 47, 27, 154, 0, 6, 21, 4, 172, 42, 180, 1, 189, 2, 160, 0, 7, 2]
abbrev dktX5_tree_4 : List UInt8 := dkwX5_tree_4 ++ dktX5_tree_5
def dkwX5_tree_3 : List UInt8 := [3, 54, 4, 21, 4, 7, 162, 0, 72, 42, 2, 181, 1, 189, 42, 32, 21, 4, 4, 182, 1, 185]
abbrev dktX5_tree_3 : List UInt8 := dkwX5_tree_3 ++ dktX5_tree_4
def dkwX5_tree_2 : List UInt8 := [54, 4, 21, 4, 42, 180, 1, 115, 162, 0, 16, 32, 10, 21, 4, 121, 129, 65, 132, 4, 1, 167, 255, 237]
abbrev dktX5_tree_2 : List UInt8 := dkwX5_tree_2 ++ dktX5_tree_3
def dkwX5_tree_1 : List UInt8 := [182, 1, 131, 153, 0, 10, 42, 180, 1, 115, 154, 0, 6, 16, 254, 172, 42, 182, 1, 192, 9, 65, 3]
abbrev dktX5_tree_1 : List UInt8 := dkwX5_tree_1 ++ dktX5_tree_2
def dkwX5_tree_0 : List UInt8 := [42, 3, 181, 0, 106, 42, 180, 1, 13, 153, 0, 12, 27, 155, 0, 8, 27, 5, 164, 0, 5, 2, 172, 42]
abbrev dktX5_tree_0 : List UInt8 := dkwX5_tree_0 ++ dktX5_tree_1
theorem dksX5_tree_0 : cX5_tree.data.toList.drop 0 = dktX5_tree_0 := by decide +kernel
theorem dksX5_tree_1 : cX5_tree.data.toList.drop 24 = dktX5_tree_1 := dk_seg dksX5_tree_0 24 rfl rfl
theorem dksX5_tree_2 : cX5_tree.data.toList.drop 47 = dktX5_tree_2 := dk_seg dksX5_tree_1 23 rfl rfl
theorem dksX5_tree_3 : cX5_tree.data.toList.drop 71 = dktX5_tree_3 := dk_seg dksX5_tree_2 24 rfl rfl
theorem dksX5_tree_4 : cX5_tree.data.toList.drop 93 = dktX5_tree_4 := dk_seg dksX5_tree_3 22 rfl rfl
theorem dksX5_tree_5 : cX5_tree.data.toList.drop 115 = dktX5_tree_5 := dk_seg dksX5_tree_4 22 rfl rfl
theorem dksX5_tree_6 : cX5_tree.data.toList.drop 139 = dktX5_tree_6 := dk_seg dksX5_tree_5 24 rfl rfl
abbrev cX5_weighAll : ByteArray := prog_19_method_85_code
def dkwX5_weighAll_3 : List UInt8 := [29, 100, 29, 182, 1, 70, 79, 132, 2, 1, 167, 255, 191, 132, 1, 1, 167, 255, 170, 177]
abbrev dktX5_weighAll_3 : List UInt8 := dkwX5_weighAll_3 ++ []
def dkwX5_weighAll_2 : List UInt8 := [2, 167, 0, 29, 28, 16, 11, 162, 0, 12, 42, 3, 29, 182, 1, 70, 167, 0, 14, 42, 42, 180, 1, 62]
abbrev dktX5_weighAll_2 : List UInt8 := dkwX5_weighAll_2 ++ dktX5_weighAll_3
def dkwX5_weighAll_1 : List UInt8 := [16, 11, 112, 4, 96, 62, 42, 180, 0, 103, 16, 22, 27, 104, 28, 96, 29, 42, 180, 1, 62, 161, 0, 7]
abbrev dktX5_weighAll_1 : List UInt8 := dkwX5_weighAll_1 ++ dktX5_weighAll_2
def dkwX5_weighAll_0 : List UInt8 := [3, 60, 27, 42, 180, 1, 115, 162, 0, 84, 42, 27, 182, 1, 143, 3, 61, 28, 16, 22, 162, 0, 65, 28]
abbrev dktX5_weighAll_0 : List UInt8 := dkwX5_weighAll_0 ++ dktX5_weighAll_1
theorem dksX5_weighAll_0 : cX5_weighAll.data.toList.drop 0 = dktX5_weighAll_0 := by decide +kernel
theorem dksX5_weighAll_1 : cX5_weighAll.data.toList.drop 24 = dktX5_weighAll_1 := dk_seg dksX5_weighAll_0 24 rfl rfl
theorem dksX5_weighAll_2 : cX5_weighAll.data.toList.drop 48 = dktX5_weighAll_2 := dk_seg dksX5_weighAll_1 24 rfl rfl
theorem dksX5_weighAll_3 : cX5_weighAll.data.toList.drop 72 = dktX5_weighAll_3 := dk_seg dksX5_weighAll_2 24 rfl rfl
abbrev cX5_tells : ByteArray := prog_19_method_88_code
def dkwX5_tells_6 : List UInt8 := [132, 5, 1, 167, 255, 132, 3, 172]
abbrev dktX5_tells_6 : List UInt8 := dkwX5_tells_6 ++ []
def dkwX5_tells_5 : List UInt8 := [167, 255, 175, 21, 6, 154, 0, 6, 167, 0, 16, 21, 4, 153, 0, 9, 42, 21, 5, 181, 1, 189, 4, 172]
abbrev dktX5_tells_5 : List UInt8 := dkwX5_tells_5 ++ dktX5_tells_6
def dkwX5_tells_4 : List UInt8 := [22, 10, 29, 4, 100, 3, 182, 1, 185, 153, 0, 7, 4, 167, 0, 4, 3, 54, 6, 132, 9, 1]
abbrev dktX5_tells_4 : List UInt8 := dkwX5_tells_4 ++ dktX5_tells_5
def dkwX5_tells_3 : List UInt8 := [182, 1, 181, 55, 10, 22, 7, 22, 10, 20, 1, 52, 131, 127, 55, 7, 22, 10, 31, 148, 153, 0, 20, 42]
abbrev dktX5_tells_3 : List UInt8 := dkwX5_tells_3 ++ dktX5_tells_4
def dkwX5_tells_2 : List UInt8 := [153, 0, 73, 22, 7, 21, 9, 123, 10, 127, 9, 148, 154, 0, 6, 167, 0, 52, 42, 31, 21, 9, 21, 5]
abbrev dktX5_tells_2 : List UInt8 := dkwX5_tells_2 ++ dktX5_tells_3
def dkwX5_tells_1 : List UInt8 := [162, 0, 123, 4, 54, 6, 31, 55, 7, 3, 54, 9, 21, 9, 42, 180, 1, 115, 162, 0, 78, 21, 6]
abbrev dktX5_tells_1 : List UInt8 := dkwX5_tells_1 ++ dktX5_tells_2
def dkwX5_tells_0 : List UInt8 := [31, 184, 1, 177, 5, 162, 0, 5, 4, 172, 29, 154, 0, 5, 3, 172, 3, 54, 5, 21, 5, 16, 22]
abbrev dktX5_tells_0 : List UInt8 := dkwX5_tells_0 ++ dktX5_tells_1
theorem dksX5_tells_0 : cX5_tells.data.toList.drop 0 = dktX5_tells_0 := by decide +kernel
theorem dksX5_tells_1 : cX5_tells.data.toList.drop 23 = dktX5_tells_1 := dk_seg dksX5_tells_0 23 rfl rfl
theorem dksX5_tells_2 : cX5_tells.data.toList.drop 46 = dktX5_tells_2 := dk_seg dksX5_tells_1 23 rfl rfl
theorem dksX5_tells_3 : cX5_tells.data.toList.drop 70 = dktX5_tells_3 := dk_seg dksX5_tells_2 24 rfl rfl
theorem dksX5_tells_4 : cX5_tells.data.toList.drop 94 = dktX5_tells_4 := dk_seg dksX5_tells_3 24 rfl rfl
theorem dksX5_tells_5 : cX5_tells.data.toList.drop 116 = dktX5_tells_5 := dk_seg dksX5_tells_4 22 rfl rfl
theorem dksX5_tells_6 : cX5_tells.data.toList.drop 140 = dktX5_tells_6 := dk_seg dksX5_tells_5 24 rfl rfl
abbrev cX5_bitsOf : ByteArray := prog_19_method_86_code
def dkwX5_bitsOf_1 : List UInt8 := [167, 255, 238, 28, 172]
abbrev dktX5_bitsOf_1 : List UInt8 := dkwX5_bitsOf_1 ++ []
def dkwX5_bitsOf_0 : List UInt8 := [3, 61, 3, 62, 29, 16, 60, 162, 0, 18, 28, 30, 29, 123, 10, 127, 136, 96, 61, 132, 3, 1]
abbrev dktX5_bitsOf_0 : List UInt8 := dkwX5_bitsOf_0 ++ dktX5_bitsOf_1
theorem dksX5_bitsOf_0 : cX5_bitsOf.data.toList.drop 0 = dktX5_bitsOf_0 := by decide +kernel
theorem dksX5_bitsOf_1 : cX5_bitsOf.data.toList.drop 22 = dktX5_bitsOf_1 := dk_seg dksX5_bitsOf_0 22 rfl rfl
abbrev cX5_group : ByteArray := prog_19_method_87_code
def dkwX5_group_3 : List UInt8 := [173]
abbrev dktX5_group_3 : List UInt8 := dkwX5_group_3 ++ []
def dkwX5_group_2 : List UInt8 := [21, 4, 96, 46, 160, 0, 12, 22, 5, 10, 21, 7, 121, 129, 55, 5, 132, 7, 1, 167, 255, 196, 22, 5]
abbrev dktX5_group_2 : List UInt8 := dkwX5_group_2 ++ dktX5_group_3
def dkwX5_group_1 : List UInt8 := [154, 0, 40, 42, 180, 0, 103, 16, 22, 21, 7, 104, 21, 4, 96, 46, 42, 180, 0, 103, 16, 22, 29, 104]
abbrev dktX5_group_1 : List UInt8 := dkwX5_group_1 ++ dktX5_group_2
def dkwX5_group_0 : List UInt8 := [9, 55, 5, 3, 54, 7, 21, 7, 42, 180, 1, 115, 162, 0, 57, 31, 21, 7, 123, 10, 127, 10, 148]
abbrev dktX5_group_0 : List UInt8 := dkwX5_group_0 ++ dktX5_group_1
theorem dksX5_group_0 : cX5_group.data.toList.drop 0 = dktX5_group_0 := by decide +kernel
theorem dksX5_group_1 : cX5_group.data.toList.drop 23 = dktX5_group_1 := dk_seg dksX5_group_0 23 rfl rfl
theorem dksX5_group_2 : cX5_group.data.toList.drop 47 = dktX5_group_2 := dk_seg dksX5_group_1 24 rfl rfl
theorem dksX5_group_3 : cX5_group.data.toList.drop 71 = dktX5_group_3 := dk_seg dksX5_group_2 24 rfl rfl
abbrev cX5_plan : ByteArray := prog_19_method_90_code
def dkwX5_plan_9 : List UInt8 := [167, 255, 124, 29, 172]
abbrev dktX5_plan_9 : List UInt8 := dkwX5_plan_9 ++ []
def dkwX5_plan_8 : List UInt8 := [167, 0, 4, 3, 96, 54, 5, 132, 6, 1, 167, 255, 152, 29, 21, 5, 184, 1, 195, 62, 132, 4, 1]
abbrev dktX5_plan_8 : List UInt8 := dkwX5_plan_8 ++ dktX5_plan_9
def dkwX5_plan_7 : List UInt8 := [21, 9, 96, 46, 159, 0, 6, 3, 54, 7, 132, 8, 1, 167, 255, 188, 21, 5, 21, 7, 153, 0, 7, 4]
abbrev dktX5_plan_7 : List UInt8 := dkwX5_plan_7 ++ dktX5_plan_8
def dkwX5_plan_6 : List UInt8 := [54, 9, 42, 180, 0, 103, 16, 22, 21, 6, 104, 21, 9, 96, 46, 42, 180, 0, 103, 16, 22, 21, 4, 104]
abbrev dktX5_plan_6 : List UInt8 := dkwX5_plan_6 ++ dktX5_plan_7
def dkwX5_plan_5 : List UInt8 := [21, 8, 104, 7, 96, 122, 4, 126, 16, 11, 104, 28, 8, 21, 8, 104, 122, 16, 15, 126, 96, 4, 100]
abbrev dktX5_plan_5 : List UInt8 := dkwX5_plan_5 ++ dktX5_plan_6
def dkwX5_plan_4 : List UInt8 := [21, 6, 42, 180, 1, 115, 162, 0, 101, 4, 54, 7, 3, 54, 8, 21, 8, 27, 162, 0, 68, 28, 8]
abbrev dktX5_plan_4 : List UInt8 := dkwX5_plan_4 ++ dktX5_plan_5
def dkwX5_plan_3 : List UInt8 := [182, 1, 192, 3, 62, 3, 54, 4, 21, 4, 42, 180, 1, 115, 162, 0, 129, 3, 54, 5, 3, 54, 6]
abbrev dktX5_plan_3 : List UInt8 := dkwX5_plan_3 ++ dktX5_plan_4
def dkwX5_plan_2 : List UInt8 := [16, 11, 164, 0, 5, 2, 172, 132, 3, 1, 167, 255, 223, 42, 182, 1, 131, 154, 0, 6, 16, 254, 172, 42]
abbrev dktX5_plan_2 : List UInt8 := dkwX5_plan_2 ++ dktX5_plan_3
def dkwX5_plan_1 : List UInt8 := [62, 29, 27, 162, 0, 34, 28, 8, 29, 104, 122, 16, 15, 126, 54, 4, 21, 4, 4, 161, 0, 10, 21, 4]
abbrev dktX5_plan_1 : List UInt8 := dkwX5_plan_1 ++ dktX5_plan_2
def dkwX5_plan_0 : List UInt8 := [42, 3, 181, 0, 106, 42, 180, 1, 13, 153, 0, 12, 27, 155, 0, 8, 27, 6, 164, 0, 5, 2, 172, 3]
abbrev dktX5_plan_0 : List UInt8 := dkwX5_plan_0 ++ dktX5_plan_1
theorem dksX5_plan_0 : cX5_plan.data.toList.drop 0 = dktX5_plan_0 := by decide +kernel
theorem dksX5_plan_1 : cX5_plan.data.toList.drop 24 = dktX5_plan_1 := dk_seg dksX5_plan_0 24 rfl rfl
theorem dksX5_plan_2 : cX5_plan.data.toList.drop 48 = dktX5_plan_2 := dk_seg dksX5_plan_1 24 rfl rfl
theorem dksX5_plan_3 : cX5_plan.data.toList.drop 72 = dktX5_plan_3 := dk_seg dksX5_plan_2 24 rfl rfl
theorem dksX5_plan_4 : cX5_plan.data.toList.drop 95 = dktX5_plan_4 := dk_seg dksX5_plan_3 23 rfl rfl
theorem dksX5_plan_5 : cX5_plan.data.toList.drop 118 = dktX5_plan_5 := dk_seg dksX5_plan_4 23 rfl rfl
theorem dksX5_plan_6 : cX5_plan.data.toList.drop 141 = dktX5_plan_6 := dk_seg dksX5_plan_5 23 rfl rfl
theorem dksX5_plan_7 : cX5_plan.data.toList.drop 165 = dktX5_plan_7 := dk_seg dksX5_plan_6 24 rfl rfl
theorem dksX5_plan_8 : cX5_plan.data.toList.drop 189 = dktX5_plan_8 := dk_seg dksX5_plan_7 24 rfl rfl
theorem dksX5_plan_9 : cX5_plan.data.toList.drop 212 = dktX5_plan_9 := dk_seg dksX5_plan_8 23 rfl rfl
abbrev cX5_alike : ByteArray := prog_19_method_92_code
def dkwX5_alike_3 : List UInt8 := [167, 0, 4, 3, 96, 61, 132, 3, 1, 167, 255, 222, 28, 172]
abbrev dktX5_alike_3 : List UInt8 := dkwX5_alike_3 ++ []
def dkwX5_alike_2 : List UInt8 := [180, 1, 115, 162, 0, 32, 28, 29, 27, 159, 0, 17, 42, 29, 27, 182, 1, 198, 2, 160, 0, 7, 4]
abbrev dktX5_alike_2 : List UInt8 := dkwX5_alike_2 ++ dktX5_alike_3
def dkwX5_alike_1 : List UInt8 := [154, 0, 6, 16, 254, 172, 42, 27, 182, 1, 134, 154, 0, 5, 2, 172, 3, 61, 3, 62, 29, 42]
abbrev dktX5_alike_1 : List UInt8 := dkwX5_alike_1 ++ dktX5_alike_2
def dkwX5_alike_0 : List UInt8 := [42, 3, 181, 0, 106, 42, 180, 1, 13, 153, 0, 7, 27, 156, 0, 5, 2, 172, 42, 182, 1, 131]
abbrev dktX5_alike_0 : List UInt8 := dkwX5_alike_0 ++ dktX5_alike_1
theorem dksX5_alike_0 : cX5_alike.data.toList.drop 0 = dktX5_alike_0 := by decide +kernel
theorem dksX5_alike_1 : cX5_alike.data.toList.drop 22 = dktX5_alike_1 := dk_seg dksX5_alike_0 22 rfl rfl
theorem dksX5_alike_2 : cX5_alike.data.toList.drop 44 = dktX5_alike_2 := dk_seg dksX5_alike_1 22 rfl rfl
theorem dksX5_alike_3 : cX5_alike.data.toList.drop 67 = dktX5_alike_3 := dk_seg dksX5_alike_2 23 rfl rfl
abbrev cX5_partsAt : ByteArray := prog_19_method_91_code
def dkwX5_partsAt_4 : List UInt8 := [167, 255, 185, 2, 172]
abbrev dktX5_partsAt_4 : List UInt8 := dkwX5_partsAt_4 ++ []
def dkwX5_partsAt_3 : List UInt8 := [42, 180, 0, 88, 16, 12, 28, 104, 21, 4, 96, 46, 46, 159, 0, 6, 21, 4, 172, 132, 4, 1]
abbrev dktX5_partsAt_3 : List UInt8 := dkwX5_partsAt_3 ++ dktX5_partsAt_4
def dkwX5_partsAt_2 : List UInt8 := [162, 0, 40, 42, 180, 0, 49, 42, 180, 0, 88, 16, 12, 27, 104, 21, 4, 96, 46, 46, 42, 180, 0, 49]
abbrev dktX5_partsAt_2 : List UInt8 := dkwX5_partsAt_2 ++ dktX5_partsAt_3
def dkwX5_partsAt_1 : List UInt8 := [162, 0, 71, 21, 4, 42, 180, 0, 91, 27, 46, 162, 0, 51, 21, 4, 42, 180, 0, 91, 28, 46]
abbrev dktX5_partsAt_1 : List UInt8 := dkwX5_partsAt_1 ++ dktX5_partsAt_2
def dkwX5_partsAt_0 : List UInt8 := [42, 180, 0, 91, 27, 46, 42, 180, 0, 91, 28, 46, 184, 1, 195, 62, 3, 54, 4, 21, 4, 29]
abbrev dktX5_partsAt_0 : List UInt8 := dkwX5_partsAt_0 ++ dktX5_partsAt_1
theorem dksX5_partsAt_0 : cX5_partsAt.data.toList.drop 0 = dktX5_partsAt_0 := by decide +kernel
theorem dksX5_partsAt_1 : cX5_partsAt.data.toList.drop 22 = dktX5_partsAt_1 := dk_seg dksX5_partsAt_0 22 rfl rfl
theorem dksX5_partsAt_2 : cX5_partsAt.data.toList.drop 44 = dktX5_partsAt_2 := dk_seg dksX5_partsAt_1 22 rfl rfl
theorem dksX5_partsAt_3 : cX5_partsAt.data.toList.drop 68 = dktX5_partsAt_3 := dk_seg dksX5_partsAt_2 24 rfl rfl
theorem dksX5_partsAt_4 : cX5_partsAt.data.toList.drop 90 = dktX5_partsAt_4 := dk_seg dksX5_partsAt_3 22 rfl rfl
abbrev cX5_parts : ByteArray := prog_19_method_93_code
def dkwX5_parts_1 : List UInt8 := [182, 1, 134, 154, 0, 8, 16, 254, 167, 0, 9, 42, 27, 28, 182, 1, 198, 172]
abbrev dktX5_parts_1 : List UInt8 := dkwX5_parts_1 ++ []
def dkwX5_parts_0 : List UInt8 := [42, 3, 181, 0, 106, 42, 182, 1, 131, 153, 0, 19, 42, 27, 182, 1, 134, 153, 0, 11, 42, 28]
abbrev dktX5_parts_0 : List UInt8 := dkwX5_parts_0 ++ dktX5_parts_1
theorem dksX5_parts_0 : cX5_parts.data.toList.drop 0 = dktX5_parts_0 := by decide +kernel
theorem dksX5_parts_1 : cX5_parts.data.toList.drop 22 = dktX5_parts_1 := dk_seg dksX5_parts_0 22 rfl rfl
abbrev cX5_shifts : ByteArray := prog_19_method_95_code
def dkwX5_shifts_1 : List UInt8 := [164, 0, 7, 2, 167, 0, 9, 42, 27, 28, 182, 1, 201, 172]
abbrev dktX5_shifts_1 : List UInt8 := dkwX5_shifts_1 ++ []
def dkwX5_shifts_0 : List UInt8 := [42, 3, 181, 0, 106, 27, 155, 0, 19, 27, 6, 163, 0, 14, 28, 4, 161, 0, 9, 28, 16, 99]
abbrev dktX5_shifts_0 : List UInt8 := dkwX5_shifts_0 ++ dktX5_shifts_1
theorem dksX5_shifts_0 : cX5_shifts.data.toList.drop 0 = dktX5_shifts_0 := by decide +kernel
theorem dksX5_shifts_1 : cX5_shifts.data.toList.drop 22 = dktX5_shifts_1 := dk_seg dksX5_shifts_0 22 rfl rfl
abbrev cX5_shiftsOf : ByteArray := prog_19_method_94_code
def dkwX5_shiftsOf_4 : List UInt8 := [132, 4, 1, 167, 255, 163, 29, 172]
abbrev dktX5_shiftsOf_4 : List UInt8 := dkwX5_shiftsOf_4 ++ []
def dkwX5_shiftsOf_3 : List UInt8 := [180, 0, 69, 21, 5, 46, 100, 184, 1, 65, 28, 160, 0, 6, 132, 3, 1, 132, 5, 1, 167, 255, 181]
abbrev dktX5_shiftsOf_3 : List UInt8 := dkwX5_shiftsOf_3 ++ dktX5_shiftsOf_4
def dkwX5_shiftsOf_2 : List UInt8 := [46, 27, 160, 0, 39, 42, 180, 0, 66, 21, 5, 46, 27, 160, 0, 28, 42, 180, 0, 69, 21, 4, 46, 42]
abbrev dktX5_shiftsOf_2 : List UInt8 := dkwX5_shiftsOf_2 ++ dktX5_shiftsOf_3
def dkwX5_shiftsOf_1 : List UInt8 := [42, 21, 4, 182, 1, 103, 153, 0, 59, 42, 21, 5, 182, 1, 103, 153, 0, 50, 42, 180, 0, 66, 21, 4]
abbrev dktX5_shiftsOf_1 : List UInt8 := dkwX5_shiftsOf_1 ++ dktX5_shiftsOf_2
def dkwX5_shiftsOf_0 : List UInt8 := [3, 62, 3, 54, 4, 21, 4, 42, 180, 1, 16, 162, 0, 90, 3, 54, 5, 21, 5, 21, 4, 162, 0, 74]
abbrev dktX5_shiftsOf_0 : List UInt8 := dkwX5_shiftsOf_0 ++ dktX5_shiftsOf_1
theorem dksX5_shiftsOf_0 : cX5_shiftsOf.data.toList.drop 0 = dktX5_shiftsOf_0 := by decide +kernel
theorem dksX5_shiftsOf_1 : cX5_shiftsOf.data.toList.drop 24 = dktX5_shiftsOf_1 := dk_seg dksX5_shiftsOf_0 24 rfl rfl
theorem dksX5_shiftsOf_2 : cX5_shiftsOf.data.toList.drop 48 = dktX5_shiftsOf_2 := dk_seg dksX5_shiftsOf_1 24 rfl rfl
theorem dksX5_shiftsOf_3 : cX5_shiftsOf.data.toList.drop 72 = dktX5_shiftsOf_3 := dk_seg dksX5_shiftsOf_2 24 rfl rfl
theorem dksX5_shiftsOf_4 : cX5_shiftsOf.data.toList.drop 95 = dktX5_shiftsOf_4 := dk_seg dksX5_shiftsOf_3 23 rfl rfl
abbrev cX5_shift : ByteArray := prog_19_method_96_code
def dkwX5_shift_2 : List UInt8 := [167, 0, 9, 21, 4, 61, 21, 5, 62, 132, 4, 1, 167, 255, 222, 28, 172]
abbrev dktX5_shift_2 : List UInt8 := dkwX5_shift_2 ++ []
def dkwX5_shift_1 : List UInt8 := [21, 4, 16, 100, 162, 0, 33, 42, 27, 21, 4, 182, 1, 201, 54, 5, 21, 5, 29, 163, 0, 6]
abbrev dktX5_shift_1 : List UInt8 := dkwX5_shift_1 ++ dktX5_shift_2
def dkwX5_shift_0 : List UInt8 := [42, 3, 181, 0, 106, 27, 155, 0, 8, 27, 6, 164, 0, 5, 2, 172, 2, 61, 3, 62, 4, 54, 4]
abbrev dktX5_shift_0 : List UInt8 := dkwX5_shift_0 ++ dktX5_shift_1
theorem dksX5_shift_0 : cX5_shift.data.toList.drop 0 = dktX5_shift_0 := by decide +kernel
theorem dksX5_shift_1 : cX5_shift.data.toList.drop 23 = dktX5_shift_1 := dk_seg dksX5_shift_0 23 rfl rfl
theorem dksX5_shift_2 : cX5_shift.data.toList.drop 45 = dktX5_shift_2 := dk_seg dksX5_shift_1 22 rfl rfl
abbrev cX5_world : ByteArray := prog_19_method_98_code
def dkwX5_world_7 : List UInt8 := [132, 6, 1, 167, 255, 149, 21, 4, 2, 160, 0, 8, 21, 5, 167, 0, 5, 16, 254, 172]
abbrev dktX5_world_7 : List UInt8 := dkwX5_world_7 ++ []
def dkwX5_world_6 : List UInt8 := [5, 96, 182, 1, 88, 54, 8, 21, 5, 21, 4, 160, 0, 9, 21, 8, 21, 7, 96, 172, 132, 5, 1]
abbrev dktX5_world_6 : List UInt8 := dkwX5_world_6 ++ dktX5_world_7
def dkwX5_world_5 : List UInt8 := [4, 100, 162, 0, 14, 42, 21, 6, 4, 96, 182, 1, 79, 167, 0, 16, 42, 21, 6, 42, 180, 1, 62, 100]
abbrev dktX5_world_5 : List UInt8 := dkwX5_world_5 ++ dktX5_world_6
def dkwX5_world_4 : List UInt8 := [180, 0, 15, 8, 46, 104, 4, 96, 112, 42, 180, 0, 15, 8, 46, 100, 54, 7, 21, 6, 42, 180, 1, 62]
abbrev dktX5_world_4 : List UInt8 := dkwX5_world_4 ++ dktX5_world_5
def dkwX5_world_3 : List UInt8 := [162, 0, 100, 42, 182, 1, 209, 16, 10, 112, 29, 161, 0, 6, 167, 0, 80, 42, 182, 1, 209, 5, 42]
abbrev dktX5_world_3 : List UInt8 := dkwX5_world_3 ++ dktX5_world_4
def dkwX5_world_2 : List UInt8 := [182, 1, 143, 42, 28, 181, 1, 204, 3, 54, 5, 3, 54, 6, 21, 6, 5, 42, 180, 1, 62, 4, 100, 104]
abbrev dktX5_world_2 : List UInt8 := dkwX5_world_2 ++ dktX5_world_3
def dkwX5_world_1 : List UInt8 := [161, 0, 18, 42, 182, 1, 131, 153, 0, 11, 42, 27, 182, 1, 134, 154, 0, 5, 2, 172, 42, 27]
abbrev dktX5_world_1 : List UInt8 := dkwX5_world_1 ++ dktX5_world_2
def dkwX5_world_0 : List UInt8 := [42, 3, 181, 0, 106, 28, 155, 0, 34, 29, 155, 0, 30, 29, 16, 10, 163, 0, 24, 21, 4, 2]
abbrev dktX5_world_0 : List UInt8 := dkwX5_world_0 ++ dktX5_world_1
theorem dksX5_world_0 : cX5_world.data.toList.drop 0 = dktX5_world_0 := by decide +kernel
theorem dksX5_world_1 : cX5_world.data.toList.drop 22 = dktX5_world_1 := dk_seg dksX5_world_0 22 rfl rfl
theorem dksX5_world_2 : cX5_world.data.toList.drop 44 = dktX5_world_2 := dk_seg dksX5_world_1 22 rfl rfl
theorem dksX5_world_3 : cX5_world.data.toList.drop 68 = dktX5_world_3 := dk_seg dksX5_world_2 24 rfl rfl
theorem dksX5_world_4 : cX5_world.data.toList.drop 91 = dktX5_world_4 := dk_seg dksX5_world_3 23 rfl rfl
theorem dksX5_world_5 : cX5_world.data.toList.drop 115 = dktX5_world_5 := dk_seg dksX5_world_4 24 rfl rfl
theorem dksX5_world_6 : cX5_world.data.toList.drop 139 = dktX5_world_6 := dk_seg dksX5_world_5 24 rfl rfl
theorem dksX5_world_7 : cX5_world.data.toList.drop 162 = dktX5_world_7 := dk_seg dksX5_world_6 23 rfl rfl
abbrev cX5_draw : ByteArray := prog_19_method_97_code
def dkwX5_draw_1 : List UInt8 := [16, 16, 122, 172]
abbrev dktX5_draw_1 : List UInt8 := dkwX5_draw_1 ++ []
def dkwX5_draw_0 : List UInt8 := [42, 42, 180, 1, 204, 19, 1, 207, 104, 17, 48, 57, 96, 19, 1, 208, 126, 181, 1, 204, 42, 180, 1, 204]
abbrev dktX5_draw_0 : List UInt8 := dkwX5_draw_0 ++ dktX5_draw_1
theorem dksX5_draw_0 : cX5_draw.data.toList.drop 0 = dktX5_draw_0 := by decide +kernel
theorem dksX5_draw_1 : cX5_draw.data.toList.drop 24 = dktX5_draw_1 := dk_seg dksX5_draw_0 24 rfl rfl
abbrev cX5_keep : ByteArray := prog_19_method_99_code
def dkwX5_keep_3 : List UInt8 := [180, 0, 82, 27, 42, 180, 0, 72, 27, 51, 84, 132, 1, 1, 167, 255, 209, 42, 180, 1, 16, 172]
abbrev dktX5_keep_3 : List UInt8 := dkwX5_keep_3 ++ []
def dkwX5_keep_2 : List UInt8 := [180, 0, 76, 27, 42, 180, 0, 66, 27, 46, 79, 42, 180, 0, 79, 27, 42, 180, 0, 69, 27, 46, 79, 42]
abbrev dktX5_keep_2 : List UInt8 := dkwX5_keep_2 ++ dktX5_keep_3
def dkwX5_keep_1 : List UInt8 := [181, 1, 215, 42, 42, 180, 0, 63, 181, 1, 218, 3, 60, 27, 42, 180, 1, 16, 162, 0, 45, 42]
abbrev dktX5_keep_1 : List UInt8 := dkwX5_keep_1 ++ dktX5_keep_2
def dkwX5_keep_0 : List UInt8 := [42, 3, 181, 0, 106, 42, 4, 181, 1, 19, 42, 42, 180, 1, 13, 181, 1, 212, 42, 42, 180, 1, 16]
abbrev dktX5_keep_0 : List UInt8 := dkwX5_keep_0 ++ dktX5_keep_1
theorem dksX5_keep_0 : cX5_keep.data.toList.drop 0 = dktX5_keep_0 := by decide +kernel
theorem dksX5_keep_1 : cX5_keep.data.toList.drop 23 = dktX5_keep_1 := dk_seg dksX5_keep_0 23 rfl rfl
theorem dksX5_keep_2 : cX5_keep.data.toList.drop 45 = dktX5_keep_2 := dk_seg dksX5_keep_1 22 rfl rfl
theorem dksX5_keep_3 : cX5_keep.data.toList.drop 69 = dktX5_keep_3 := dk_seg dksX5_keep_2 24 rfl rfl
abbrev cX5_back : ByteArray := prog_19_method_100_code
def dkwX5_back_3 : List UInt8 := [42, 180, 0, 72, 27, 42, 180, 0, 82, 27, 51, 84, 132, 1, 1, 167, 255, 209, 42, 180, 1, 16, 172]
abbrev dktX5_back_3 : List UInt8 := dkwX5_back_3 ++ []
def dkwX5_back_2 : List UInt8 := [42, 180, 0, 66, 27, 42, 180, 0, 76, 27, 46, 79, 42, 180, 0, 69, 27, 42, 180, 0, 79, 27, 46, 79]
abbrev dktX5_back_2 : List UInt8 := dkwX5_back_2 ++ dktX5_back_3
def dkwX5_back_1 : List UInt8 := [180, 1, 215, 181, 1, 16, 42, 42, 180, 1, 218, 181, 0, 63, 3, 60, 27, 42, 180, 1, 16, 162, 0, 45]
abbrev dktX5_back_1 : List UInt8 := dkwX5_back_1 ++ dktX5_back_2
def dkwX5_back_0 : List UInt8 := [42, 3, 181, 0, 106, 42, 180, 1, 19, 154, 0, 5, 2, 172, 42, 42, 180, 1, 212, 181, 1, 13, 42, 42]
abbrev dktX5_back_0 : List UInt8 := dkwX5_back_0 ++ dktX5_back_1
theorem dksX5_back_0 : cX5_back.data.toList.drop 0 = dktX5_back_0 := by decide +kernel
theorem dksX5_back_1 : cX5_back.data.toList.drop 24 = dktX5_back_1 := dk_seg dksX5_back_0 24 rfl rfl
theorem dksX5_back_2 : cX5_back.data.toList.drop 48 = dktX5_back_2 := dk_seg dksX5_back_1 24 rfl rfl
theorem dksX5_back_3 : cX5_back.data.toList.drop 72 = dktX5_back_3 := dk_seg dksX5_back_2 24 rfl rfl
abbrev cX5_count : ByteArray := prog_19_method_101_code
def dkwX5_count_5 : List UInt8 := [132, 3, 1, 167, 255, 229, 28, 172, 42, 180, 1, 13, 172, 42, 180, 0, 15, 16, 8, 46, 172, 2, 172]
abbrev dktX5_count_5 : List UInt8 := dkwX5_count_5 ++ []
def dkwX5_count_4 : List UInt8 := [180, 1, 16, 162, 0, 25, 28, 42, 29, 182, 1, 103, 153, 0, 7, 4, 167, 0, 4, 3, 96, 61]
abbrev dktX5_count_4 : List UInt8 := dkwX5_count_4 ++ dktX5_count_5
def dkwX5_count_3 : List UInt8 := [46, 172, 42, 180, 0, 15, 16, 9, 46, 172, 42, 180, 1, 16, 172, 42, 182, 1, 59, 172, 3, 62, 29, 42]
abbrev dktX5_count_3 : List UInt8 := dkwX5_count_3 ++ dktX5_count_4
def dkwX5_count_2 : List UInt8 := [42, 180, 0, 15, 3, 46, 172, 42, 180, 0, 15, 4, 46, 172, 42, 180, 0, 249, 172, 42, 180, 0, 15, 5]
abbrev dktX5_count_2 : List UInt8 := dkwX5_count_2 ++ dktX5_count_3
def dkwX5_count_1 : List UInt8 := [170, 0, 0, 0, 0, 0, 0, 147, 0, 0, 0, 0, 0, 0, 0, 9, 0, 0, 0, 56, 0, 0, 0, 63, 0, 0, 0, 70, 0, 0, 0, 75, 0, 0, 0, 82, 0, 0, 0, 90, 0, 0, 0, 95, 0, 0, 0, 100, 0, 0, 0, 134, 0, 0, 0, 139]
abbrev dktX5_count_1 : List UInt8 := dkwX5_count_1 ++ dktX5_count_2
def dkwX5_count_0 : List UInt8 := [42, 3, 181, 0, 106, 3, 61, 27]
abbrev dktX5_count_0 : List UInt8 := dkwX5_count_0 ++ dktX5_count_1
theorem dksX5_count_0 : cX5_count.data.toList.drop 0 = dktX5_count_0 := by decide +kernel
theorem dksX5_count_1 : cX5_count.data.toList.drop 8 = dktX5_count_1 := dk_seg dksX5_count_0 8 rfl rfl
theorem dksX5_count_2 : cX5_count.data.toList.drop 64 = dktX5_count_2 := dk_seg dksX5_count_1 56 rfl rfl
theorem dksX5_count_3 : cX5_count.data.toList.drop 88 = dktX5_count_3 := dk_seg dksX5_count_2 24 rfl rfl
theorem dksX5_count_4 : cX5_count.data.toList.drop 112 = dktX5_count_4 := dk_seg dksX5_count_3 24 rfl rfl
theorem dksX5_count_5 : cX5_count.data.toList.drop 134 = dktX5_count_5 := dk_seg dksX5_count_4 22 rfl rfl
abbrev cX6_init : ByteArray := prog_13_method_1_code
def dkwX6_init_1 : List UInt8 := [181, 0, 22, 177]
abbrev dktX6_init_1 : List UInt8 := dkwX6_init_1 ++ []
def dkwX6_init_0 : List UInt8 := [42, 43, 181, 0, 3, 42, 183, 0, 9, 42, 187, 0, 15, 89, 183, 0, 17, 181, 0, 18, 42, 28]
abbrev dktX6_init_0 : List UInt8 := dkwX6_init_0 ++ dktX6_init_1
theorem dksX6_init_0 : cX6_init.data.toList.drop 0 = dktX6_init_0 := by decide +kernel
theorem dksX6_init_1 : cX6_init.data.toList.drop 22 = dktX6_init_1 := dk_seg dksX6_init_0 22 rfl rfl
abbrev cX6_text : ByteArray := prog_13_method_19_code
def dkwX6_text_3 : List UInt8 := [42, 180, 0, 18, 176]
abbrev dktX6_text_3 : List UInt8 := dkwX6_text_3 ++ []
def dkwX6_text_2 : List UInt8 := [182, 0, 99, 191, 42, 182, 0, 107, 42, 180, 0, 18, 89, 180, 0, 119, 4, 96, 181, 0, 119, 167, 255, 192]
abbrev dktX6_text_2 : List UInt8 := dkwX6_text_2 ++ dktX6_text_3
def dkwX6_text_1 : List UInt8 := [16, 8, 164, 0, 8, 42, 182, 0, 99, 191, 42, 182, 0, 113, 42, 16, 59, 182, 0, 116, 154, 0, 8, 42]
abbrev dktX6_text_1 : List UInt8 := dkwX6_text_1 ++ dktX6_text_2
def dkwX6_text_0 : List UInt8 := [42, 182, 0, 107, 42, 180, 0, 44, 153, 0, 63, 42, 180, 0, 44, 4, 160, 0, 12, 42, 180, 0, 66]
abbrev dktX6_text_0 : List UInt8 := dkwX6_text_0 ++ dktX6_text_1
theorem dksX6_text_0 : cX6_text.data.toList.drop 0 = dktX6_text_0 := by decide +kernel
theorem dksX6_text_1 : cX6_text.data.toList.drop 23 = dktX6_text_1 := dk_seg dksX6_text_0 23 rfl rfl
theorem dksX6_text_2 : cX6_text.data.toList.drop 47 = dktX6_text_2 := dk_seg dksX6_text_1 24 rfl rfl
theorem dksX6_text_3 : cX6_text.data.toList.drop 71 = dktX6_text_3 := dk_seg dksX6_text_2 24 rfl rfl
abbrev cX6_take : ByteArray := prog_13_method_5_code
def dkwX6_take_4 : List UInt8 := [42, 182, 0, 57, 167, 0, 7, 42, 182, 0, 60, 177]
abbrev dktX6_take_4 : List UInt8 := dkwX6_take_4 ++ []
def dkwX6_take_3 : List UInt8 := [182, 0, 47, 153, 0, 10, 42, 182, 0, 51, 167, 0, 25, 42, 42, 180, 0, 38, 182, 0, 54, 153, 0, 10]
abbrev dktX6_take_3 : List UInt8 := dkwX6_take_3 ++ dktX6_take_4
def dkwX6_take_2 : List UInt8 := [42, 180, 0, 38, 42, 180, 0, 22, 161, 0, 11, 42, 3, 181, 0, 44, 167, 0, 43, 42, 42, 180, 0, 38]
abbrev dktX6_take_2 : List UInt8 := dkwX6_take_2 ++ dktX6_take_3
def dkwX6_take_1 : List UInt8 := [160, 0, 16, 42, 89, 180, 0, 38, 4, 96, 181, 0, 38, 167, 255, 220, 42, 42, 180, 0, 38, 181, 0, 41]
abbrev dktX6_take_1 : List UInt8 := dkwX6_take_1 ++ dktX6_take_2
def dkwX6_take_0 : List UInt8 := [42, 42, 180, 0, 38, 182, 0, 30, 16, 10, 159, 0, 16, 42, 42, 180, 0, 38, 182, 0, 30, 16, 32]
abbrev dktX6_take_0 : List UInt8 := dkwX6_take_0 ++ dktX6_take_1
theorem dksX6_take_0 : cX6_take.data.toList.drop 0 = dktX6_take_0 := by decide +kernel
theorem dksX6_take_1 : cX6_take.data.toList.drop 23 = dktX6_take_1 := dk_seg dksX6_take_0 23 rfl rfl
theorem dksX6_take_2 : cX6_take.data.toList.drop 47 = dktX6_take_2 := dk_seg dksX6_take_1 24 rfl rfl
theorem dksX6_take_3 : cX6_take.data.toList.drop 71 = dktX6_take_3 := dk_seg dksX6_take_2 24 rfl rfl
theorem dksX6_take_4 : cX6_take.data.toList.drop 95 = dktX6_take_4 := dk_seg dksX6_take_3 24 rfl rfl
abbrev cX6_see : ByteArray := prog_13_method_2_code
def dkwX6_see_1 : List UInt8 := [2, 172]
abbrev dktX6_see_1 : List UInt8 := dkwX6_see_1 ++ []
def dkwX6_see_0 : List UInt8 := [27, 42, 180, 0, 22, 162, 0, 19, 42, 180, 0, 3, 180, 0, 26, 27, 51, 17, 0, 255, 126, 167, 0, 4]
abbrev dktX6_see_0 : List UInt8 := dkwX6_see_0 ++ dktX6_see_1
theorem dksX6_see_0 : cX6_see.data.toList.drop 0 = dktX6_see_0 := by decide +kernel
theorem dksX6_see_1 : cX6_see.data.toList.drop 24 = dktX6_see_1 := dk_seg dksX6_see_0 24 rfl rfl
abbrev cX6_isSmall : ByteArray := prog_13_method_3_code
def dkwX6_isSmall_0 : List UInt8 := [42, 27, 182, 0, 30, 16, 97, 16, 122, 184, 0, 34, 172]
abbrev dktX6_isSmall_0 : List UInt8 := dkwX6_isSmall_0 ++ []
theorem dksX6_isSmall_0 : cX6_isSmall.data.toList.drop 0 = dktX6_isSmall_0 := by decide +kernel
abbrev cX6_takeWord : ByteArray := prog_13_method_6_code
def dkwX6_takeWord_5 : List UInt8 := [182, 0, 30, 16, 96, 100, 167, 0, 4, 3, 128, 181, 0, 66, 132, 1, 1, 167, 255, 211, 177]
abbrev dktX6_takeWord_5 : List UInt8 := dkwX6_takeWord_5 ++ []
def dkwX6_takeWord_4 : List UInt8 := [16, 6, 96, 162, 0, 40, 42, 42, 180, 0, 66, 8, 120, 27, 42, 180, 0, 38, 162, 0, 14, 42, 27]
abbrev dktX6_takeWord_4 : List UInt8 := dkwX6_takeWord_4 ++ dktX6_takeWord_5
def dkwX6_takeWord_3 : List UInt8 := [180, 0, 44, 5, 159, 0, 4, 177, 42, 3, 181, 0, 66, 42, 180, 0, 41, 60, 27, 42, 180, 0, 41]
abbrev dktX6_takeWord_3 : List UInt8 := dkwX6_takeWord_3 ++ dktX6_takeWord_4
def dkwX6_takeWord_2 : List UInt8 := [42, 180, 0, 38, 42, 180, 0, 41, 100, 16, 6, 164, 0, 8, 16, 6, 167, 0, 4, 5, 181, 0, 44, 42]
abbrev dktX6_takeWord_2 : List UInt8 := dkwX6_takeWord_2 ++ dktX6_takeWord_3
def dkwX6_takeWord_1 : List UInt8 := [42, 42, 42, 180, 0, 41, 182, 0, 63, 181, 0, 66, 42, 42, 180, 0, 66, 155, 0, 7, 4, 167, 0, 23]
abbrev dktX6_takeWord_1 : List UInt8 := dkwX6_takeWord_1 ++ dktX6_takeWord_2
def dkwX6_takeWord_0 : List UInt8 := [42, 42, 180, 0, 38, 182, 0, 47, 153, 0, 16, 42, 89, 180, 0, 38, 4, 96, 181, 0, 38, 167, 255, 235]
abbrev dktX6_takeWord_0 : List UInt8 := dkwX6_takeWord_0 ++ dktX6_takeWord_1
theorem dksX6_takeWord_0 : cX6_takeWord.data.toList.drop 0 = dktX6_takeWord_0 := by decide +kernel
theorem dksX6_takeWord_1 : cX6_takeWord.data.toList.drop 24 = dktX6_takeWord_1 := dk_seg dksX6_takeWord_0 24 rfl rfl
theorem dksX6_takeWord_2 : cX6_takeWord.data.toList.drop 48 = dktX6_takeWord_2 := dk_seg dksX6_takeWord_1 24 rfl rfl
theorem dksX6_takeWord_3 : cX6_takeWord.data.toList.drop 72 = dktX6_takeWord_3 := dk_seg dksX6_takeWord_2 24 rfl rfl
theorem dksX6_takeWord_4 : cX6_takeWord.data.toList.drop 95 = dktX6_takeWord_4 := dk_seg dksX6_takeWord_3 23 rfl rfl
theorem dksX6_takeWord_5 : cX6_takeWord.data.toList.drop 118 = dktX6_takeWord_5 := dk_seg dksX6_takeWord_4 23 rfl rfl
abbrev cX6_key : ByteArray := prog_13_method_7_code
def dkwX6_key_5 : List UInt8 := [132, 3, 1, 167, 255, 140, 2, 172]
abbrev dktX6_key_5 : List UInt8 := dkwX6_key_5 ++ []
def dkwX6_key_4 : List UInt8 := [167, 0, 4, 3, 54, 5, 132, 6, 1, 167, 255, 212, 21, 5, 153, 0, 5, 29, 172, 21, 4, 4, 96, 61]
abbrev dktX6_key_4 : List UInt8 := dkwX6_key_4 ++ dktX6_key_5
def dkwX6_key_3 : List UInt8 := [153, 0, 36, 18, 69, 28, 21, 6, 96, 182, 0, 81, 42, 27, 21, 6, 96, 182, 0, 30, 160, 0, 7, 4]
abbrev dktX6_key_3 : List UInt8 := dkwX6_key_3 ++ dktX6_key_4
def dkwX6_key_2 : List UInt8 := [160, 0, 7, 4, 167, 0, 4, 3, 54, 5, 3, 54, 6, 21, 6, 21, 4, 28, 100, 162, 0, 41, 21, 5]
abbrev dktX6_key_2 : List UInt8 := dkwX6_key_2 ++ dktX6_key_3
def dkwX6_key_1 : List UInt8 := [21, 4, 156, 0, 10, 18, 69, 182, 0, 71, 54, 4, 21, 4, 28, 100, 42, 180, 0, 38, 27, 100]
abbrev dktX6_key_1 : List UInt8 := dkwX6_key_1 ++ dktX6_key_2
def dkwX6_key_0 : List UInt8 := [3, 61, 3, 62, 28, 18, 69, 182, 0, 71, 162, 0, 113, 18, 69, 16, 32, 28, 182, 0, 77, 54, 4]
abbrev dktX6_key_0 : List UInt8 := dkwX6_key_0 ++ dktX6_key_1
theorem dksX6_key_0 : cX6_key.data.toList.drop 0 = dktX6_key_0 := by decide +kernel
theorem dksX6_key_1 : cX6_key.data.toList.drop 23 = dktX6_key_1 := dk_seg dksX6_key_0 23 rfl rfl
theorem dksX6_key_2 : cX6_key.data.toList.drop 45 = dktX6_key_2 := dk_seg dksX6_key_1 22 rfl rfl
theorem dksX6_key_3 : cX6_key.data.toList.drop 69 = dktX6_key_3 := dk_seg dksX6_key_2 24 rfl rfl
theorem dksX6_key_4 : cX6_key.data.toList.drop 93 = dktX6_key_4 := dk_seg dksX6_key_3 24 rfl rfl
theorem dksX6_key_5 : cX6_key.data.toList.drop 117 = dktX6_key_5 := dk_seg dksX6_key_4 24 rfl rfl
abbrev cX6_isDigit : ByteArray := prog_13_method_4_code
def dkwX6_isDigit_0 : List UInt8 := [42, 27, 182, 0, 30, 16, 48, 16, 57, 184, 0, 34, 172]
abbrev dktX6_isDigit_0 : List UInt8 := dkwX6_isDigit_0 ++ []
theorem dksX6_isDigit_0 : cX6_isDigit.data.toList.drop 0 = dktX6_isDigit_0 := by decide +kernel
abbrev cX6_takeNumber : ByteArray := prog_13_method_8_code
def dkwX6_takeNumber_2 : List UInt8 := [181, 0, 66, 42, 89, 180, 0, 38, 4, 96, 181, 0, 38, 167, 255, 206, 177]
abbrev dktX6_takeNumber_2 : List UInt8 := dkwX6_takeNumber_2 ++ []
def dkwX6_takeNumber_1 : List UInt8 := [42, 180, 0, 66, 104, 42, 42, 180, 0, 38, 182, 0, 30, 96, 16, 48, 100, 17, 39, 16, 184, 0, 85]
abbrev dktX6_takeNumber_1 : List UInt8 := dkwX6_takeNumber_1 ++ dktX6_takeNumber_2
def dkwX6_takeNumber_0 : List UInt8 := [42, 6, 181, 0, 44, 42, 3, 181, 0, 66, 42, 42, 180, 0, 38, 182, 0, 54, 153, 0, 45, 42, 16, 10]
abbrev dktX6_takeNumber_0 : List UInt8 := dkwX6_takeNumber_0 ++ dktX6_takeNumber_1
theorem dksX6_takeNumber_0 : cX6_takeNumber.data.toList.drop 0 = dktX6_takeNumber_0 := by decide +kernel
theorem dksX6_takeNumber_1 : cX6_takeNumber.data.toList.drop 24 = dktX6_takeNumber_1 := dk_seg dksX6_takeNumber_0 24 rfl rfl
theorem dksX6_takeNumber_2 : cX6_takeNumber.data.toList.drop 47 = dktX6_takeNumber_2 := dk_seg dksX6_takeNumber_1 23 rfl rfl
abbrev cX6_takeSign : ByteArray := prog_13_method_9_code
def dkwX6_takeSign_8 : List UInt8 := [182, 0, 92, 155, 0, 7, 7, 167, 0, 5, 16, 6, 181, 0, 44, 177]
abbrev dktX6_takeSign_8 : List UInt8 := dkwX6_takeSign_8 ++ []
def dkwX6_takeSign_7 : List UInt8 := [167, 0, 4, 8, 181, 0, 66, 42, 8, 181, 0, 44, 167, 0, 25, 42, 18, 90, 42, 180, 0, 66]
abbrev dktX6_takeSign_7 : List UInt8 := dkwX6_takeSign_7 ++ dktX6_takeSign_8
def dkwX6_takeSign_6 : List UInt8 := [153, 0, 7, 4, 167, 0, 24, 29, 153, 0, 7, 6, 167, 0, 16, 3, 167, 0, 12, 28, 153, 0, 7, 7]
abbrev dktX6_takeSign_6 : List UInt8 := dkwX6_takeSign_6 ++ dktX6_takeSign_7
def dkwX6_takeSign_5 : List UInt8 := [42, 42, 180, 0, 66, 16, 61, 160, 0, 7, 5, 167, 0, 41, 42, 180, 0, 66, 16, 60, 160, 0, 23, 28]
abbrev dktX6_takeSign_5 : List UInt8 := dkwX6_takeSign_5 ++ dktX6_takeSign_6
def dkwX6_takeSign_4 : List UInt8 := [4, 167, 0, 4, 3, 62, 28, 154, 0, 7, 29, 153, 0, 13, 42, 89, 180, 0, 38, 4, 96, 181, 0, 38]
abbrev dktX6_takeSign_4 : List UInt8 := dkwX6_takeSign_4 ++ dktX6_takeSign_5
def dkwX6_takeSign_3 : List UInt8 := [160, 0, 7, 4, 167, 0, 4, 3, 61, 42, 180, 0, 66, 16, 60, 160, 0, 13, 27, 16, 62, 160, 0, 7]
abbrev dktX6_takeSign_3 : List UInt8 := dkwX6_takeSign_3 ++ dktX6_takeSign_4
def dkwX6_takeSign_2 : List UInt8 := [159, 0, 12, 42, 180, 0, 66, 16, 61, 160, 0, 126, 42, 180, 0, 66, 16, 61, 159, 0, 13, 27, 16, 61]
abbrev dktX6_takeSign_2 : List UInt8 := dkwX6_takeSign_2 ++ dktX6_takeSign_3
def dkwX6_takeSign_1 : List UInt8 := [180, 0, 38, 182, 0, 30, 60, 42, 180, 0, 66, 16, 60, 159, 0, 21, 42, 180, 0, 66, 16, 62]
abbrev dktX6_takeSign_1 : List UInt8 := dkwX6_takeSign_1 ++ dktX6_takeSign_2
def dkwX6_takeSign_0 : List UInt8 := [42, 42, 42, 180, 0, 38, 182, 0, 30, 181, 0, 66, 42, 89, 180, 0, 38, 4, 96, 181, 0, 38, 42, 42]
abbrev dktX6_takeSign_0 : List UInt8 := dkwX6_takeSign_0 ++ dktX6_takeSign_1
theorem dksX6_takeSign_0 : cX6_takeSign.data.toList.drop 0 = dktX6_takeSign_0 := by decide +kernel
theorem dksX6_takeSign_1 : cX6_takeSign.data.toList.drop 24 = dktX6_takeSign_1 := dk_seg dksX6_takeSign_0 24 rfl rfl
theorem dksX6_takeSign_2 : cX6_takeSign.data.toList.drop 46 = dktX6_takeSign_2 := dk_seg dksX6_takeSign_1 22 rfl rfl
theorem dksX6_takeSign_3 : cX6_takeSign.data.toList.drop 70 = dktX6_takeSign_3 := dk_seg dksX6_takeSign_2 24 rfl rfl
theorem dksX6_takeSign_4 : cX6_takeSign.data.toList.drop 94 = dktX6_takeSign_4 := dk_seg dksX6_takeSign_3 24 rfl rfl
theorem dksX6_takeSign_5 : cX6_takeSign.data.toList.drop 118 = dktX6_takeSign_5 := dk_seg dksX6_takeSign_4 24 rfl rfl
theorem dksX6_takeSign_6 : cX6_takeSign.data.toList.drop 142 = dktX6_takeSign_6 := dk_seg dksX6_takeSign_5 24 rfl rfl
theorem dksX6_takeSign_7 : cX6_takeSign.data.toList.drop 166 = dktX6_takeSign_7 := dk_seg dksX6_takeSign_6 24 rfl rfl
theorem dksX6_takeSign_8 : cX6_takeSign.data.toList.drop 188 = dktX6_takeSign_8 := dk_seg dksX6_takeSign_7 22 rfl rfl
abbrev cX6_wrong : ByteArray := prog_13_method_10_code
def dkwX6_wrong_0 : List UInt8 := [187, 0, 94, 89, 4, 42, 180, 0, 41, 183, 0, 96, 176]
abbrev dktX6_wrong_0 : List UInt8 := dkwX6_wrong_0 ++ []
theorem dksX6_wrong_0 : cX6_wrong.data.toList.drop 0 = dktX6_wrong_0 := by decide +kernel
abbrev cX6_line : ByteArray := prog_13_method_20_code
def dkwX6_line_16 : List UInt8 := [167, 0, 4, 3, 182, 0, 110, 42, 182, 0, 107, 42, 180, 0, 18, 42, 182, 0, 193, 181, 0, 189, 177]
abbrev dktX6_line_16 : List UInt8 := dkwX6_line_16 ++ []
def dkwX6_line_15 : List UInt8 := [4, 181, 0, 186, 42, 182, 0, 107, 167, 0, 37, 42, 42, 180, 0, 18, 180, 0, 189, 198, 0, 7, 4]
abbrev dktX6_line_15 : List UInt8 := dkwX6_line_15 ++ dktX6_line_16
def dkwX6_line_14 : List UInt8 := [182, 0, 144, 181, 0, 183, 167, 0, 63, 42, 42, 180, 0, 18, 180, 0, 186, 182, 0, 110, 42, 180, 0, 18]
abbrev dktX6_line_14 : List UInt8 := dkwX6_line_14 ++ dktX6_line_15
def dkwX6_line_13 : List UInt8 := [182, 0, 110, 42, 180, 0, 18, 4, 181, 0, 180, 42, 182, 0, 107, 42, 180, 0, 18, 42, 3, 7]
abbrev dktX6_line_13 : List UInt8 := dkwX6_line_13 ++ dktX6_line_14
def dkwX6_line_12 : List UInt8 := [180, 0, 18, 42, 3, 6, 182, 0, 144, 181, 0, 177, 167, 0, 102, 42, 42, 180, 0, 18, 180, 0, 180]
abbrev dktX6_line_12 : List UInt8 := dkwX6_line_12 ++ dktX6_line_13
def dkwX6_line_11 : List UInt8 := [180, 0, 18, 180, 0, 174, 182, 0, 110, 42, 180, 0, 18, 4, 181, 0, 174, 42, 182, 0, 107, 42]
abbrev dktX6_line_11 : List UInt8 := dkwX6_line_11 ++ dktX6_line_12
def dkwX6_line_10 : List UInt8 := [182, 0, 107, 42, 180, 0, 18, 42, 3, 16, 9, 182, 0, 144, 181, 0, 171, 167, 0, 141, 42, 42]
abbrev dktX6_line_10 : List UInt8 := dkwX6_line_10 ++ dktX6_line_11
def dkwX6_line_9 : List UInt8 := [167, 0, 181, 42, 42, 180, 0, 18, 180, 0, 168, 182, 0, 110, 42, 180, 0, 18, 4, 181, 0, 168, 42]
abbrev dktX6_line_9 : List UInt8 := dkwX6_line_9 ++ dktX6_line_10
def dkwX6_line_8 : List UInt8 := [16, 99, 182, 0, 144, 181, 0, 162, 42, 180, 0, 18, 42, 3, 16, 99, 182, 0, 144, 181, 0, 165]
abbrev dktX6_line_8 : List UInt8 := dkwX6_line_8 ++ dktX6_line_9
def dkwX6_line_7 : List UInt8 := [180, 0, 158, 182, 0, 110, 42, 180, 0, 18, 4, 181, 0, 158, 42, 182, 0, 107, 42, 180, 0, 18, 42, 3]
abbrev dktX6_line_7 : List UInt8 := dkwX6_line_7 ++ dktX6_line_8
def dkwX6_line_6 : List UInt8 := [167, 0, 249, 42, 182, 0, 152, 167, 0, 242, 42, 182, 0, 155, 167, 0, 235, 42, 42, 180, 0, 18]
abbrev dktX6_line_6 : List UInt8 := dkwX6_line_6 ++ dktX6_line_7
def dkwX6_line_5 : List UInt8 := [180, 0, 122, 187, 0, 142, 89, 28, 42, 4, 17, 0, 200, 182, 0, 144, 183, 0, 147, 182, 0, 148, 87]
abbrev dktX6_line_5 : List UInt8 := dkwX6_line_5 ++ dktX6_line_6
def dkwX6_line_4 : List UInt8 := [16, 12, 160, 0, 7, 4, 167, 0, 4, 3, 182, 0, 103, 42, 27, 182, 0, 139, 61, 42, 180, 0, 18]
abbrev dktX6_line_4 : List UInt8 := dkwX6_line_4 ++ dktX6_line_5
def dkwX6_line_3 : List UInt8 := [42, 182, 0, 107, 42, 180, 0, 18, 42, 182, 0, 130, 182, 0, 133, 60, 42, 42, 180, 0, 18, 182, 0, 136]
abbrev dktX6_line_3 : List UInt8 := dkwX6_line_3 ++ dktX6_line_4
def dkwX6_line_2 : List UInt8 := [42, 42, 180, 0, 18, 180, 0, 122, 182, 0, 126, 16, 6, 160, 0, 7, 4, 167, 0, 4, 3, 182, 0, 103]
abbrev dktX6_line_2 : List UInt8 := dkwX6_line_2 ++ dktX6_line_3
def dkwX6_line_1 : List UInt8 := [170, 0, 0, 0, 0, 0, 1, 101, 0, 0, 0, 0, 0, 0, 0, 7, 0, 0, 0, 48, 0, 0, 0, 145, 0, 0, 0, 152, 0, 0, 0, 159, 0, 0, 0, 213, 0, 0, 0, 253, 0, 0, 1, 36, 0, 0, 1, 75]
abbrev dktX6_line_1 : List UInt8 := dkwX6_line_1 ++ dktX6_line_2
def dkwX6_line_0 : List UInt8 := [42, 180, 0, 66]
abbrev dktX6_line_0 : List UInt8 := dkwX6_line_0 ++ dktX6_line_1
theorem dksX6_line_0 : cX6_line.data.toList.drop 0 = dktX6_line_0 := by decide +kernel
theorem dksX6_line_1 : cX6_line.data.toList.drop 4 = dktX6_line_1 := dk_seg dksX6_line_0 4 rfl rfl
theorem dksX6_line_2 : cX6_line.data.toList.drop 52 = dktX6_line_2 := dk_seg dksX6_line_1 48 rfl rfl
theorem dksX6_line_3 : cX6_line.data.toList.drop 76 = dktX6_line_3 := dk_seg dksX6_line_2 24 rfl rfl
theorem dksX6_line_4 : cX6_line.data.toList.drop 100 = dktX6_line_4 := dk_seg dksX6_line_3 24 rfl rfl
theorem dksX6_line_5 : cX6_line.data.toList.drop 123 = dktX6_line_5 := dk_seg dksX6_line_4 23 rfl rfl
theorem dksX6_line_6 : cX6_line.data.toList.drop 146 = dktX6_line_6 := dk_seg dksX6_line_5 23 rfl rfl
theorem dksX6_line_7 : cX6_line.data.toList.drop 168 = dktX6_line_7 := dk_seg dksX6_line_6 22 rfl rfl
theorem dksX6_line_8 : cX6_line.data.toList.drop 192 = dktX6_line_8 := dk_seg dksX6_line_7 24 rfl rfl
theorem dksX6_line_9 : cX6_line.data.toList.drop 214 = dktX6_line_9 := dk_seg dksX6_line_8 22 rfl rfl
theorem dksX6_line_10 : cX6_line.data.toList.drop 237 = dktX6_line_10 := dk_seg dksX6_line_9 23 rfl rfl
theorem dksX6_line_11 : cX6_line.data.toList.drop 259 = dktX6_line_11 := dk_seg dksX6_line_10 22 rfl rfl
theorem dksX6_line_12 : cX6_line.data.toList.drop 281 = dktX6_line_12 := dk_seg dksX6_line_11 22 rfl rfl
theorem dksX6_line_13 : cX6_line.data.toList.drop 304 = dktX6_line_13 := dk_seg dksX6_line_12 23 rfl rfl
theorem dksX6_line_14 : cX6_line.data.toList.drop 326 = dktX6_line_14 := dk_seg dksX6_line_13 22 rfl rfl
theorem dksX6_line_15 : cX6_line.data.toList.drop 350 = dktX6_line_15 := dk_seg dksX6_line_14 24 rfl rfl
theorem dksX6_line_16 : cX6_line.data.toList.drop 373 = dktX6_line_16 := dk_seg dksX6_line_15 23 rfl rfl
abbrev cX6_much : ByteArray := prog_13_method_11_code
def dkwX6_much_0 : List UInt8 := [27, 153, 0, 16, 187, 0, 94, 89, 5, 42, 180, 0, 41, 183, 0, 96, 191, 177]
abbrev dktX6_much_0 : List UInt8 := dkwX6_much_0 ++ []
theorem dksX6_much_0 : cX6_much.data.toList.drop 0 = dktX6_much_0 := by decide +kernel
abbrev cX6_name : ByteArray := prog_13_method_16_code
def dkwX6_name_0 : List UInt8 := [42, 180, 0, 44, 5, 159, 0, 8, 42, 182, 0, 99, 191, 42, 180, 0, 66, 172]
abbrev dktX6_name_0 : List UInt8 := dkwX6_name_0 ++ []
theorem dksX6_name_0 : cX6_name.data.toList.drop 0 = dktX6_name_0 := by decide +kernel
abbrev cX6_newName : ByteArray := prog_13_method_17_code
def dkwX6_newName_0 : List UInt8 := [42, 27, 155, 0, 7, 4, 167, 0, 4, 3, 182, 0, 110, 42, 180, 0, 66, 61, 42, 182, 0, 107, 28, 172]
abbrev dktX6_newName_0 : List UInt8 := dkwX6_newName_0 ++ []
theorem dksX6_newName_0 : cX6_newName.data.toList.drop 0 = dktX6_newName_0 := by decide +kernel
abbrev cX6_told : ByteArray := prog_13_method_12_code
def dkwX6_told_0 : List UInt8 := [27, 153, 0, 16, 187, 0, 94, 89, 6, 42, 180, 0, 41, 183, 0, 96, 191, 177]
abbrev dktX6_told_0 : List UInt8 := dkwX6_told_0 ++ []
theorem dksX6_told_0 : cX6_told.data.toList.drop 0 = dktX6_told_0 := by decide +kernel
abbrev cX6_number : ByteArray := prog_13_method_15_code
def dkwX6_number_1 : List UInt8 := [154, 0, 7, 4, 167, 0, 4, 3, 182, 0, 103, 42, 180, 0, 66, 62, 42, 182, 0, 107, 29, 172]
abbrev dktX6_number_1 : List UInt8 := dkwX6_number_1 ++ []
def dkwX6_number_0 : List UInt8 := [42, 180, 0, 44, 6, 159, 0, 8, 42, 182, 0, 99, 191, 42, 42, 180, 0, 66, 27, 28, 184, 0, 34]
abbrev dktX6_number_0 : List UInt8 := dkwX6_number_0 ++ dktX6_number_1
theorem dksX6_number_0 : cX6_number.data.toList.drop 0 = dktX6_number_0 := by decide +kernel
theorem dksX6_number_1 : cX6_number.data.toList.drop 23 = dktX6_number_1 := dk_seg dksX6_number_0 23 rfl rfl
abbrev cX6_dust : ByteArray := prog_13_method_21_code
def dkwX6_dust_10 : List UInt8 := [182, 0, 148, 87, 177]
abbrev dktX6_dust_10 : List UInt8 := dkwX6_dust_10 ++ []
def dkwX6_dust_9 : List UInt8 := [42, 180, 0, 44, 5, 159, 255, 115, 42, 180, 0, 18, 180, 0, 197, 187, 0, 224, 89, 27, 28, 183, 0, 226]
abbrev dktX6_dust_9 : List UInt8 := dkwX6_dust_9 ++ dktX6_dust_10
def dkwX6_dust_8 : List UInt8 := [180, 0, 218, 28, 96, 21, 4, 42, 180, 0, 18, 180, 0, 197, 182, 0, 126, 183, 0, 221, 182, 0, 148, 87]
abbrev dktX6_dust_8 : List UInt8 := dkwX6_dust_8 ++ dktX6_dust_9
def dkwX6_dust_7 : List UInt8 := [180, 0, 209, 187, 0, 212, 89, 42, 180, 0, 18, 180, 0, 122, 21, 4, 182, 0, 214, 192, 0, 142]
abbrev dktX6_dust_7 : List UInt8 := dkwX6_dust_7 ++ dktX6_dust_8
def dkwX6_dust_6 : List UInt8 := [180, 0, 41, 183, 0, 96, 191, 42, 182, 0, 107, 29, 4, 21, 4, 120, 128, 62, 42, 180, 0, 18]
abbrev dktX6_dust_6 : List UInt8 := dkwX6_dust_6 ++ dktX6_dust_7
def dkwX6_dust_5 : List UInt8 := [153, 0, 7, 4, 167, 0, 4, 3, 182, 0, 110, 21, 4, 156, 0, 16, 187, 0, 94, 89, 7, 42]
abbrev dktX6_dust_5 : List UInt8 := dkwX6_dust_5 ++ dktX6_dust_6
def dkwX6_dust_4 : List UInt8 := [160, 0, 7, 4, 167, 0, 4, 3, 182, 0, 103, 42, 21, 4, 155, 0, 16, 29, 21, 4, 184, 0, 205]
abbrev dktX6_dust_4 : List UInt8 := dkwX6_dust_4 ++ dktX6_dust_5
def dkwX6_dust_3 : List UInt8 := [42, 180, 0, 18, 42, 182, 0, 130, 182, 0, 133, 54, 4, 42, 42, 180, 0, 18, 182, 0, 136, 16, 12]
abbrev dktX6_dust_3 : List UInt8 := dkwX6_dust_3 ++ dktX6_dust_4
def dkwX6_dust_2 : List UInt8 := [182, 0, 144, 61, 42, 16, 9, 182, 0, 202, 154, 0, 8, 42, 182, 0, 99, 191, 42, 182, 0, 107, 3, 62]
abbrev dktX6_dust_2 : List UInt8 := dkwX6_dust_2 ++ dktX6_dust_3
def dkwX6_dust_1 : List UInt8 := [182, 0, 107, 42, 42, 180, 0, 18, 42, 182, 0, 130, 182, 0, 200, 182, 0, 139, 60, 42, 4, 16, 99]
abbrev dktX6_dust_1 : List UInt8 := dkwX6_dust_1 ++ dktX6_dust_2
def dkwX6_dust_0 : List UInt8 := [42, 42, 180, 0, 18, 180, 0, 197, 182, 0, 126, 6, 160, 0, 7, 4, 167, 0, 4, 3, 182, 0, 103, 42]
abbrev dktX6_dust_0 : List UInt8 := dkwX6_dust_0 ++ dktX6_dust_1
theorem dksX6_dust_0 : cX6_dust.data.toList.drop 0 = dktX6_dust_0 := by decide +kernel
theorem dksX6_dust_1 : cX6_dust.data.toList.drop 24 = dktX6_dust_1 := dk_seg dksX6_dust_0 24 rfl rfl
theorem dksX6_dust_2 : cX6_dust.data.toList.drop 47 = dktX6_dust_2 := dk_seg dksX6_dust_1 23 rfl rfl
theorem dksX6_dust_3 : cX6_dust.data.toList.drop 71 = dktX6_dust_3 := dk_seg dksX6_dust_2 24 rfl rfl
theorem dksX6_dust_4 : cX6_dust.data.toList.drop 94 = dktX6_dust_4 := dk_seg dksX6_dust_3 23 rfl rfl
theorem dksX6_dust_5 : cX6_dust.data.toList.drop 117 = dktX6_dust_5 := dk_seg dksX6_dust_4 23 rfl rfl
theorem dksX6_dust_6 : cX6_dust.data.toList.drop 139 = dktX6_dust_6 := dk_seg dksX6_dust_5 22 rfl rfl
theorem dksX6_dust_7 : cX6_dust.data.toList.drop 161 = dktX6_dust_7 := dk_seg dksX6_dust_6 22 rfl rfl
theorem dksX6_dust_8 : cX6_dust.data.toList.drop 183 = dktX6_dust_8 := dk_seg dksX6_dust_7 22 rfl rfl
theorem dksX6_dust_9 : cX6_dust.data.toList.drop 207 = dktX6_dust_9 := dk_seg dksX6_dust_8 24 rfl rfl
theorem dksX6_dust_10 : cX6_dust.data.toList.drop 231 = dktX6_dust_10 := dk_seg dksX6_dust_9 24 rfl rfl
abbrev cX6_isKey : ByteArray := prog_13_method_14_code
def dkwX6_isKey_0 : List UInt8 := [42, 180, 0, 44, 4, 160, 0, 15, 42, 180, 0, 66, 27, 160, 0, 7, 4, 167, 0, 4, 3, 172]
abbrev dktX6_isKey_0 : List UInt8 := dkwX6_isKey_0 ++ []
theorem dksX6_isKey_0 : cX6_isKey.data.toList.drop 0 = dktX6_isKey_0 := by decide +kernel
abbrev cX6_apart : ByteArray := prog_13_method_22_code
def dkwX6_apart_5 : List UInt8 := [181, 0, 227, 177]
abbrev dktX6_apart_5 : List UInt8 := dkwX6_apart_5 ++ []
def dkwX6_apart_4 : List UInt8 := [180, 0, 18, 180, 0, 233, 27, 92, 46, 4, 28, 120, 128, 79, 42, 180, 0, 18, 89, 180, 0, 227, 4, 96]
abbrev dktX6_apart_4 : List UInt8 := dkwX6_apart_4 ++ dktX6_apart_5
def dkwX6_apart_3 : List UInt8 := [42, 42, 180, 0, 18, 180, 0, 233, 27, 46, 28, 184, 0, 205, 182, 0, 110, 42, 182, 0, 107, 42]
abbrev dktX6_apart_3 : List UInt8 := dkwX6_apart_3 ++ dktX6_apart_4
def dkwX6_apart_2 : List UInt8 := [182, 0, 130, 182, 0, 133, 61, 28, 156, 0, 16, 187, 0, 94, 89, 7, 42, 180, 0, 41, 183, 0, 96, 191]
abbrev dktX6_apart_2 : List UInt8 := dkwX6_apart_2 ++ dktX6_apart_3
def dkwX6_apart_1 : List UInt8 := [182, 0, 107, 42, 42, 180, 0, 18, 42, 182, 0, 130, 182, 0, 133, 182, 0, 230, 60, 42, 180, 0, 18, 42]
abbrev dktX6_apart_1 : List UInt8 := dkwX6_apart_1 ++ dktX6_apart_2
def dkwX6_apart_0 : List UInt8 := [42, 42, 180, 0, 18, 180, 0, 227, 16, 12, 160, 0, 7, 4, 167, 0, 4, 3, 182, 0, 103, 42]
abbrev dktX6_apart_0 : List UInt8 := dkwX6_apart_0 ++ dktX6_apart_1
theorem dksX6_apart_0 : cX6_apart.data.toList.drop 0 = dktX6_apart_0 := by decide +kernel
theorem dksX6_apart_1 : cX6_apart.data.toList.drop 22 = dktX6_apart_1 := dk_seg dksX6_apart_0 22 rfl rfl
theorem dksX6_apart_2 : cX6_apart.data.toList.drop 46 = dktX6_apart_2 := dk_seg dksX6_apart_1 24 rfl rfl
theorem dksX6_apart_3 : cX6_apart.data.toList.drop 70 = dktX6_apart_3 := dk_seg dksX6_apart_2 24 rfl rfl
theorem dksX6_apart_4 : cX6_apart.data.toList.drop 92 = dktX6_apart_4 := dk_seg dksX6_apart_3 22 rfl rfl
theorem dksX6_apart_5 : cX6_apart.data.toList.drop 116 = dktX6_apart_5 := dk_seg dksX6_apart_4 24 rfl rfl
abbrev cX6_there : ByteArray := prog_13_method_18_code
def dkwX6_there_0 : List UInt8 := [27, 156, 0, 16, 187, 0, 94, 89, 7, 42, 180, 0, 41, 183, 0, 96, 191, 42, 182, 0, 107, 27, 172]
abbrev dktX6_there_0 : List UInt8 := dkwX6_there_0 ++ []
theorem dksX6_there_0 : cX6_there.data.toList.drop 0 = dktX6_there_0 := by decide +kernel
abbrev cX6_or : ByteArray := prog_13_method_24_code
def dkwX6_or_1 : List UInt8 := [187, 0, 245, 89, 3, 43, 42, 182, 0, 239, 183, 0, 247, 76, 167, 255, 225, 43, 176]
abbrev dktX6_or_1 : List UInt8 := dkwX6_or_1 ++ []
def dkwX6_or_0 : List UInt8 := [42, 182, 0, 239, 76, 42, 16, 11, 182, 0, 202, 153, 0, 28, 42, 182, 0, 242, 42, 182, 0, 107]
abbrev dktX6_or_0 : List UInt8 := dkwX6_or_0 ++ dktX6_or_1
theorem dksX6_or_0 : cX6_or.data.toList.drop 0 = dktX6_or_0 := by decide +kernel
theorem dksX6_or_1 : cX6_or.data.toList.drop 22 = dktX6_or_1 := dk_seg dksX6_or_0 22 rfl rfl
abbrev cX6_and : ByteArray := prog_13_method_25_code
def dkwX6_and_1 : List UInt8 := [187, 0, 245, 89, 4, 43, 42, 182, 0, 250, 183, 0, 247, 76, 167, 255, 225, 43, 176]
abbrev dktX6_and_1 : List UInt8 := dkwX6_and_1 ++ []
def dkwX6_and_0 : List UInt8 := [42, 182, 0, 250, 76, 42, 16, 10, 182, 0, 202, 153, 0, 28, 42, 182, 0, 242, 42, 182, 0, 107]
abbrev dktX6_and_0 : List UInt8 := dkwX6_and_0 ++ dktX6_and_1
theorem dksX6_and_0 : cX6_and.data.toList.drop 0 = dktX6_and_0 := by decide +kernel
theorem dksX6_and_1 : cX6_and.data.toList.drop 22 = dktX6_and_1 := dk_seg dksX6_and_0 22 rfl rfl
abbrev cX6_not : ByteArray := prog_13_method_26_code
def dkwX6_not_2 : List UInt8 := [132, 3, 1, 167, 255, 239, 44, 176]
abbrev dktX6_not_2 : List UInt8 := dkwX6_not_2 ++ []
def dkwX6_not_1 : List UInt8 := [167, 255, 236, 42, 182, 0, 253, 77, 3, 62, 29, 27, 162, 0, 18, 187, 1, 0, 89, 44, 183, 1, 2, 77]
abbrev dktX6_not_1 : List UInt8 := dkwX6_not_1 ++ dktX6_not_2
def dkwX6_not_0 : List UInt8 := [3, 60, 42, 16, 12, 182, 0, 202, 153, 0, 17, 42, 182, 0, 242, 42, 182, 0, 107, 132, 1, 1]
abbrev dktX6_not_0 : List UInt8 := dkwX6_not_0 ++ dktX6_not_1
theorem dksX6_not_0 : cX6_not.data.toList.drop 0 = dktX6_not_0 := by decide +kernel
theorem dksX6_not_1 : cX6_not.data.toList.drop 22 = dktX6_not_1 := dk_seg dksX6_not_0 22 rfl rfl
theorem dksX6_not_2 : cX6_not.data.toList.drop 46 = dktX6_not_2 := dk_seg dksX6_not_1 24 rfl rfl
abbrev cX6_knot : ByteArray := prog_13_method_23_code
def dkwX6_knot_1 : List UInt8 := [180, 0, 18, 89, 180, 0, 236, 4, 96, 181, 0, 236, 177]
abbrev dktX6_knot_1 : List UInt8 := dkwX6_knot_1 ++ []
def dkwX6_knot_0 : List UInt8 := [42, 42, 180, 0, 18, 180, 0, 236, 16, 64, 160, 0, 7, 4, 167, 0, 4, 3, 182, 0, 103, 42]
abbrev dktX6_knot_0 : List UInt8 := dkwX6_knot_0 ++ dktX6_knot_1
theorem dksX6_knot_0 : cX6_knot.data.toList.drop 0 = dktX6_knot_0 := by decide +kernel
theorem dksX6_knot_1 : cX6_knot.data.toList.drop 22 = dktX6_knot_1 := dk_seg dksX6_knot_0 22 rfl rfl
abbrev cX6_compared : ByteArray := prog_13_method_27_code
def dkwX6_compared_1 : List UInt8 := [42, 182, 0, 107, 187, 1, 8, 89, 28, 43, 42, 182, 1, 5, 183, 1, 10, 176]
abbrev dktX6_compared_1 : List UInt8 := dkwX6_compared_1 ++ []
def dkwX6_compared_0 : List UInt8 := [42, 182, 1, 5, 76, 42, 180, 0, 44, 8, 159, 0, 5, 43, 176, 42, 180, 0, 66, 61, 42, 182, 0, 242]
abbrev dktX6_compared_0 : List UInt8 := dkwX6_compared_0 ++ dktX6_compared_1
theorem dksX6_compared_0 : cX6_compared.data.toList.drop 0 = dktX6_compared_0 := by decide +kernel
theorem dksX6_compared_1 : cX6_compared.data.toList.drop 24 = dktX6_compared_1 := dk_seg dksX6_compared_0 24 rfl rfl
abbrev cX6_sum : ByteArray := prog_13_method_28_code
def dkwX6_sum_2 : List UInt8 := [183, 1, 18, 76, 167, 255, 211, 43, 176]
abbrev dktX6_sum_2 : List UInt8 := dkwX6_sum_2 ++ []
def dkwX6_sum_1 : List UInt8 := [180, 0, 66, 61, 42, 182, 0, 242, 42, 182, 0, 107, 187, 1, 16, 89, 28, 43, 42, 182, 1, 13]
abbrev dktX6_sum_1 : List UInt8 := dkwX6_sum_1 ++ dktX6_sum_2
def dkwX6_sum_0 : List UInt8 := [42, 182, 1, 13, 76, 42, 16, 43, 182, 0, 116, 154, 0, 12, 42, 16, 45, 182, 0, 116, 153, 0, 33, 42]
abbrev dktX6_sum_0 : List UInt8 := dkwX6_sum_0 ++ dktX6_sum_1
theorem dksX6_sum_0 : cX6_sum.data.toList.drop 0 = dktX6_sum_0 := by decide +kernel
theorem dksX6_sum_1 : cX6_sum.data.toList.drop 24 = dktX6_sum_1 := dk_seg dksX6_sum_0 24 rfl rfl
theorem dksX6_sum_2 : cX6_sum.data.toList.drop 46 = dktX6_sum_2 := dk_seg dksX6_sum_1 22 rfl rfl
abbrev cX6_product : ByteArray := prog_13_method_29_code
def dkwX6_product_2 : List UInt8 := [183, 1, 18, 76, 167, 255, 211, 43, 176]
abbrev dktX6_product_2 : List UInt8 := dkwX6_product_2 ++ []
def dkwX6_product_1 : List UInt8 := [180, 0, 66, 61, 42, 182, 0, 242, 42, 182, 0, 107, 187, 1, 16, 89, 28, 43, 42, 182, 1, 19]
abbrev dktX6_product_1 : List UInt8 := dkwX6_product_1 ++ dktX6_product_2
def dkwX6_product_0 : List UInt8 := [42, 182, 1, 19, 76, 42, 16, 42, 182, 0, 116, 154, 0, 12, 42, 16, 47, 182, 0, 116, 153, 0, 33, 42]
abbrev dktX6_product_0 : List UInt8 := dkwX6_product_0 ++ dktX6_product_1
theorem dksX6_product_0 : cX6_product.data.toList.drop 0 = dktX6_product_0 := by decide +kernel
theorem dksX6_product_1 : cX6_product.data.toList.drop 24 = dktX6_product_1 := dk_seg dksX6_product_0 24 rfl rfl
theorem dksX6_product_2 : cX6_product.data.toList.drop 46 = dktX6_product_2 := dk_seg dksX6_product_1 22 rfl rfl
abbrev cX6_one : ByteArray := prog_13_method_30_code
def dkwX6_one_7 : List UInt8 := [133, 183, 1, 32, 176]
abbrev dktX6_one_7 : List UInt8 := dkwX6_one_7 ++ []
def dkwX6_one_6 : List UInt8 := [4, 167, 0, 4, 3, 182, 0, 103, 42, 182, 0, 242, 187, 1, 30, 89, 42, 3, 17, 39, 15, 182, 0, 144]
abbrev dktX6_one_6 : List UInt8 := dkwX6_one_6 ++ dktX6_one_7
def dkwX6_one_5 : List UInt8 := [42, 180, 0, 44, 6, 159, 0, 8, 42, 182, 0, 99, 191, 42, 42, 180, 0, 66, 17, 39, 15, 164, 0, 7]
abbrev dktX6_one_5 : List UInt8 := dkwX6_one_5 ++ dktX6_one_6
def dkwX6_one_4 : List UInt8 := [182, 0, 242, 42, 180, 0, 66, 16, 13, 100, 60, 42, 182, 0, 107, 187, 1, 25, 89, 27, 183, 1, 27, 176]
abbrev dktX6_one_4 : List UInt8 := dkwX6_one_4 ++ dktX6_one_5
def dkwX6_one_3 : List UInt8 := [182, 0, 107, 43, 176, 42, 180, 0, 44, 4, 160, 0, 37, 42, 180, 0, 66, 16, 13, 161, 0, 28, 42]
abbrev dktX6_one_3 : List UInt8 := dkwX6_one_3 ++ dktX6_one_4
def dkwX6_one_2 : List UInt8 := [16, 41, 182, 0, 116, 154, 0, 8, 42, 182, 0, 99, 191, 42, 89, 180, 1, 22, 4, 100, 181, 1, 22, 42]
abbrev dktX6_one_2 : List UInt8 := dkwX6_one_2 ++ dktX6_one_3
def dkwX6_one_1 : List UInt8 := [182, 0, 103, 42, 89, 180, 1, 22, 4, 96, 181, 1, 22, 42, 182, 0, 107, 42, 182, 0, 193, 76, 42]
abbrev dktX6_one_1 : List UInt8 := dkwX6_one_1 ++ dktX6_one_2
def dkwX6_one_0 : List UInt8 := [42, 16, 40, 182, 0, 116, 153, 0, 70, 42, 42, 180, 1, 22, 16, 8, 160, 0, 7, 4, 167, 0, 4, 3]
abbrev dktX6_one_0 : List UInt8 := dkwX6_one_0 ++ dktX6_one_1
theorem dksX6_one_0 : cX6_one.data.toList.drop 0 = dktX6_one_0 := by decide +kernel
theorem dksX6_one_1 : cX6_one.data.toList.drop 24 = dktX6_one_1 := dk_seg dksX6_one_0 24 rfl rfl
theorem dksX6_one_2 : cX6_one.data.toList.drop 47 = dktX6_one_2 := dk_seg dksX6_one_1 23 rfl rfl
theorem dksX6_one_3 : cX6_one.data.toList.drop 71 = dktX6_one_3 := dk_seg dksX6_one_2 24 rfl rfl
theorem dksX6_one_4 : cX6_one.data.toList.drop 94 = dktX6_one_4 := dk_seg dksX6_one_3 23 rfl rfl
theorem dksX6_one_5 : cX6_one.data.toList.drop 118 = dktX6_one_5 := dk_seg dksX6_one_4 24 rfl rfl
theorem dksX6_one_6 : cX6_one.data.toList.drop 142 = dktX6_one_6 := dk_seg dksX6_one_5 24 rfl rfl
theorem dksX6_one_7 : cX6_one.data.toList.drop 166 = dktX6_one_7 := dk_seg dksX6_one_6 24 rfl rfl
abbrev cX6_isSign : ByteArray := prog_13_method_13_code
def dkwX6_isSign_0 : List UInt8 := [42, 180, 0, 44, 7, 160, 0, 15, 42, 180, 0, 66, 27, 160, 0, 7, 4, 167, 0, 4, 3, 172]
abbrev dktX6_isSign_0 : List UInt8 := dkwX6_isSign_0 ++ []
theorem dksX6_isSign_0 : cX6_isSign.data.toList.drop 0 = dktX6_isSign_0 := by decide +kernel
abbrev cX7_init : ByteArray := prog_8_method_1_code
def dkwX7_init_0 : List UInt8 := [42, 1, 1, 3, 3, 183, 0, 1, 42, 27, 181, 0, 7, 42, 28, 181, 0, 13, 177]
abbrev dktX7_init_0 : List UInt8 := dkwX7_init_0 ++ []
theorem dksX7_init_0 : cX7_init.data.toList.drop 0 = dktX7_init_0 := by decide +kernel
abbrev cX8_init : ByteArray := prog_2_method_1_code
def dkwX8_init_0 : List UInt8 := [42, 183, 0, 1, 42, 27, 181, 0, 7, 42, 28, 181, 0, 13, 177]
abbrev dktX8_init_0 : List UInt8 := dkwX8_init_0 ++ []
theorem dksX8_init_0 : cX8_init.data.toList.drop 0 = dktX8_init_0 := by decide +kernel
abbrev cX9_init : ByteArray := prog_9_method_1_code
def dkwX9_init_0 : List UInt8 := [42, 183, 0, 1, 42, 27, 181, 0, 7, 42, 28, 181, 0, 13, 42, 29, 181, 0, 16, 177]
abbrev dktX9_init_0 : List UInt8 := dkwX9_init_0 ++ []
theorem dksX9_init_0 : cX9_init.data.toList.drop 0 = dktX9_init_0 := by decide +kernel
abbrev cX10_init : ByteArray := prog_7_method_1_code
def dkwX10_init_0 : List UInt8 := [42, 183, 0, 1, 42, 27, 181, 0, 7, 42, 28, 181, 0, 13, 177]
abbrev dktX10_init_0 : List UInt8 := dkwX10_init_0 ++ []
theorem dksX10_init_0 : cX10_init.data.toList.drop 0 = dktX10_init_0 := by decide +kernel
abbrev cX11_init : ByteArray := prog_10_method_1_code
def dkwX11_init_0 : List UInt8 := [42, 183, 0, 1, 42, 27, 181, 0, 7, 177]
abbrev dktX11_init_0 : List UInt8 := dkwX11_init_0 ++ []
theorem dksX11_init_0 : cX11_init.data.toList.drop 0 = dktX11_init_0 := by decide +kernel
abbrev cX11_value : ByteArray := prog_10_method_2_code
def dkwX11_value_0 : List UInt8 := [43, 180, 0, 13, 42, 180, 0, 7, 47, 173]
abbrev dktX11_value_0 : List UInt8 := dkwX11_value_0 ++ []
theorem dksX11_value_0 : cX11_value.data.toList.drop 0 = dktX11_value_0 := by decide +kernel
abbrev cX12_init : ByteArray := prog_6_method_1_code
def dkwX12_init_0 : List UInt8 := [42, 183, 0, 1, 42, 31, 181, 0, 7, 177]
abbrev dktX12_init_0 : List UInt8 := dkwX12_init_0 ++ []
theorem dksX12_init_0 : cX12_init.data.toList.drop 0 = dktX12_init_0 := by decide +kernel
abbrev cX12_value : ByteArray := prog_6_method_2_code
abbrev cX13_init : ByteArray := prog_16_method_1_code
def dkwX13_init_0 : List UInt8 := [42, 183, 0, 1, 42, 43, 181, 0, 7, 42, 44, 181, 0, 13, 177]
abbrev dktX13_init_0 : List UInt8 := dkwX13_init_0 ++ []
theorem dksX13_init_0 : cX13_init.data.toList.drop 0 = dktX13_init_0 := by decide +kernel
abbrev cX13_value : ByteArray := prog_16_method_2_code
def dkwX13_value_1 : List UInt8 := [182, 0, 22, 173]
abbrev dktX13_value_1 : List UInt8 := dkwX13_value_1 ++ []
def dkwX13_value_0 : List UInt8 := [42, 180, 0, 7, 43, 185, 0, 16, 2, 0, 65, 42, 43, 32, 42, 180, 0, 13, 43, 185, 0, 16, 2, 0]
abbrev dktX13_value_0 : List UInt8 := dkwX13_value_0 ++ dktX13_value_1
theorem dksX13_value_0 : cX13_value.data.toList.drop 0 = dktX13_value_0 := by decide +kernel
theorem dksX13_value_1 : cX13_value.data.toList.drop 24 = dktX13_value_1 := dk_seg dksX13_value_0 24 rfl rfl
abbrev cX14_init : ByteArray := prog_17_method_1_code
def dkwX14_init_0 : List UInt8 := [42, 44, 45, 183, 0, 3, 42, 27, 181, 0, 9, 177]
abbrev dktX14_init_0 : List UInt8 := dkwX14_init_0 ++ []
theorem dksX14_init_0 : cX14_init.data.toList.drop 0 = dktX14_init_0 := by decide +kernel
abbrev cX14_of : ByteArray := prog_17_method_2_code
def dkwX14_of_6 : List UInt8 := [181, 0, 21, 43, 180, 0, 21, 153, 0, 7, 9, 167, 0, 7, 32, 22, 4, 109, 173]
abbrev dktX14_of_6 : List UInt8 := dkwX14_of_6 ++ []
def dkwX14_of_5 : List UInt8 := [22, 4, 105, 173, 43, 43, 180, 0, 21, 154, 0, 10, 22, 4, 9, 148, 154, 0, 7, 4, 167, 0, 4, 3]
abbrev dktX14_of_5 : List UInt8 := dkwX14_of_5 ++ dktX14_of_6
def dkwX14_of_4 : List UInt8 := [158, 0, 7, 4, 167, 0, 4, 3, 181, 0, 21, 43, 180, 0, 21, 153, 0, 7, 9, 167, 0, 7, 32]
abbrev dktX14_of_4 : List UInt8 := dkwX14_of_4 ++ dktX14_of_5
def dkwX14_of_3 : List UInt8 := [154, 0, 26, 32, 9, 148, 153, 0, 24, 22, 4, 184, 0, 25, 20, 0, 30, 32, 184, 0, 25, 109, 148]
abbrev dktX14_of_3 : List UInt8 := dkwX14_of_3 ++ dktX14_of_4
def dkwX14_of_2 : List UInt8 := [43, 32, 22, 4, 97, 182, 0, 15, 173, 43, 32, 22, 4, 101, 182, 0, 15, 173, 43, 43, 180, 0, 21]
abbrev dktX14_of_2 : List UInt8 := dkwX14_of_2 ++ dktX14_of_3
def dkwX14_of_1 : List UInt8 := [170, 0, 0, 0, 0, 0, 0, 105, 0, 0, 0, 42, 0, 0, 0, 45, 0, 0, 0, 50, 0, 0, 0, 32, 0, 0, 0, 105, 0, 0, 0, 41]
abbrev dktX14_of_1 : List UInt8 := dkwX14_of_1 ++ dktX14_of_2
def dkwX14_of_0 : List UInt8 := [42, 180, 0, 9]
abbrev dktX14_of_0 : List UInt8 := dkwX14_of_0 ++ dktX14_of_1
theorem dksX14_of_0 : cX14_of.data.toList.drop 0 = dktX14_of_0 := by decide +kernel
theorem dksX14_of_1 : cX14_of.data.toList.drop 4 = dktX14_of_1 := dk_seg dksX14_of_0 4 rfl rfl
theorem dksX14_of_2 : cX14_of.data.toList.drop 36 = dktX14_of_2 := dk_seg dksX14_of_1 32 rfl rfl
theorem dksX14_of_3 : cX14_of.data.toList.drop 59 = dktX14_of_3 := dk_seg dksX14_of_2 23 rfl rfl
theorem dksX14_of_4 : cX14_of.data.toList.drop 82 = dktX14_of_4 := dk_seg dksX14_of_3 23 rfl rfl
theorem dksX14_of_5 : cX14_of.data.toList.drop 105 = dktX14_of_5 := dk_seg dksX14_of_4 23 rfl rfl
theorem dksX14_of_6 : cX14_of.data.toList.drop 129 = dktX14_of_6 := dk_seg dksX14_of_5 24 rfl rfl
abbrev cX15_init : ByteArray := prog_5_method_1_code
def dkwX15_init_0 : List UInt8 := [42, 44, 45, 183, 0, 1, 42, 27, 181, 0, 7, 177]
abbrev dktX15_init_0 : List UInt8 := dkwX15_init_0 ++ []
theorem dksX15_init_0 : cX15_init.data.toList.drop 0 = dktX15_init_0 := by decide +kernel
abbrev cX15_of : ByteArray := prog_5_method_2_code
def dkwX15_of_5 : List UInt8 := [22, 4, 148, 158, 0, 7, 4, 167, 0, 4, 3, 54, 6, 21, 6, 153, 0, 7, 10, 167, 0, 4, 9, 173]
abbrev dktX15_of_5 : List UInt8 := dkwX15_of_5 ++ []
def dkwX15_of_4 : List UInt8 := [180, 0, 7, 7, 160, 0, 18, 32, 22, 4, 148, 155, 0, 7, 4, 167, 0, 19, 3, 167, 0, 15, 32]
abbrev dktX15_of_4 : List UInt8 := dkwX15_of_4 ++ dktX15_of_5
def dkwX15_of_3 : List UInt8 := [180, 0, 7, 6, 160, 0, 18, 32, 22, 4, 148, 153, 0, 7, 4, 167, 0, 42, 3, 167, 0, 38, 42]
abbrev dktX15_of_3 : List UInt8 := dkwX15_of_3 ++ dktX15_of_4
def dkwX15_of_2 : List UInt8 := [180, 0, 7, 5, 160, 0, 18, 32, 22, 4, 148, 154, 0, 7, 4, 167, 0, 65, 3, 167, 0, 61, 42]
abbrev dktX15_of_2 : List UInt8 := dkwX15_of_2 ++ dktX15_of_3
def dkwX15_of_1 : List UInt8 := [180, 0, 7, 4, 160, 0, 18, 32, 22, 4, 148, 157, 0, 7, 4, 167, 0, 88, 3, 167, 0, 84, 42]
abbrev dktX15_of_1 : List UInt8 := dkwX15_of_1 ++ dktX15_of_2
def dkwX15_of_0 : List UInt8 := [42, 180, 0, 7, 154, 0, 18, 32, 22, 4, 148, 156, 0, 7, 4, 167, 0, 111, 3, 167, 0, 107, 42]
abbrev dktX15_of_0 : List UInt8 := dkwX15_of_0 ++ dktX15_of_1
theorem dksX15_of_0 : cX15_of.data.toList.drop 0 = dktX15_of_0 := by decide +kernel
theorem dksX15_of_1 : cX15_of.data.toList.drop 23 = dktX15_of_1 := dk_seg dksX15_of_0 23 rfl rfl
theorem dksX15_of_2 : cX15_of.data.toList.drop 46 = dktX15_of_2 := dk_seg dksX15_of_1 23 rfl rfl
theorem dksX15_of_3 : cX15_of.data.toList.drop 69 = dktX15_of_3 := dk_seg dksX15_of_2 23 rfl rfl
theorem dksX15_of_4 : cX15_of.data.toList.drop 92 = dktX15_of_4 := dk_seg dksX15_of_3 23 rfl rfl
theorem dksX15_of_5 : cX15_of.data.toList.drop 115 = dktX15_of_5 := dk_seg dksX15_of_4 23 rfl rfl
abbrev cX16_init : ByteArray := prog_12_method_1_code
def dkwX16_init_0 : List UInt8 := [42, 183, 0, 1, 42, 43, 181, 0, 7, 177]
abbrev dktX16_init_0 : List UInt8 := dkwX16_init_0 ++ []
theorem dksX16_init_0 : cX16_init.data.toList.drop 0 = dktX16_init_0 := by decide +kernel
abbrev cX16_value : ByteArray := prog_12_method_2_code
def dkwX16_value_0 : List UInt8 := [42, 180, 0, 7, 43, 185, 0, 13, 2, 0, 9, 148, 154, 0, 7, 10, 167, 0, 4, 9, 173]
abbrev dktX16_value_0 : List UInt8 := dkwX16_value_0 ++ []
theorem dksX16_value_0 : cX16_value.data.toList.drop 0 = dktX16_value_0 := by decide +kernel
abbrev cX17_init : ByteArray := prog_4_method_1_code
def dkwX17_init_0 : List UInt8 := [42, 44, 45, 183, 0, 1, 42, 27, 181, 0, 7, 177]
abbrev dktX17_init_0 : List UInt8 := dkwX17_init_0 ++ []
theorem dksX17_init_0 : cX17_init.data.toList.drop 0 = dktX17_init_0 := by decide +kernel
abbrev cX17_of : ByteArray := prog_4_method_2_code
def dkwX17_of_1 : List UInt8 := [9, 167, 0, 21, 32, 9, 148, 154, 0, 10, 22, 4, 9, 148, 153, 0, 7, 10, 167, 0, 4, 9, 173]
abbrev dktX17_of_1 : List UInt8 := dkwX17_of_1 ++ []
def dkwX17_of_0 : List UInt8 := [42, 180, 0, 7, 153, 0, 24, 32, 9, 148, 153, 0, 14, 22, 4, 9, 148, 153, 0, 7, 10, 167, 0, 25]
abbrev dktX17_of_0 : List UInt8 := dkwX17_of_0 ++ dktX17_of_1
theorem dksX17_of_0 : cX17_of.data.toList.drop 0 = dktX17_of_0 := by decide +kernel
theorem dksX17_of_1 : cX17_of.data.toList.drop 24 = dktX17_of_1 := dk_seg dksX17_of_0 24 rfl rfl
abbrev cJ0_init : ByteArray := prog_42_method_1_code
abbrev cJ1_init : ByteArray := prog_43_method_1_code
def dkwJ1_init_0 : List UInt8 := [42, 183, 0, 1, 42, 3, 181, 0, 7, 177]
abbrev dktJ1_init_0 : List UInt8 := dkwJ1_init_0 ++ []
theorem dksJ1_init_0 : cJ1_init.data.toList.drop 0 = dktJ1_init_0 := by decide +kernel
abbrev cJ2_init : ByteArray := prog_44_method_2_code
def dkwJ2_init_0 : List UInt8 := [42, 183, 0, 1, 42, 178, 0, 39, 181, 0, 9, 177]
abbrev dktJ2_init_0 : List UInt8 := dkwJ2_init_0 ++ []
theorem dksJ2_init_0 : cJ2_init.data.toList.drop 0 = dktJ2_init_0 := by decide +kernel
abbrev cJ2_size : ByteArray := prog_44_method_8_code
abbrev cJ2_get : ByteArray := prog_44_method_20_code
def dkwJ2_get_0 : List UInt8 := [27, 42, 180, 0, 48, 184, 0, 118, 87, 42, 27, 182, 0, 123, 176]
abbrev dktJ2_get_0 : List UInt8 := dkwJ2_get_0 ++ []
theorem dksJ2_get_0 : cJ2_get.data.toList.drop 0 = dktJ2_get_0 := by decide +kernel
abbrev cJ2_elementData : ByteArray := prog_44_method_18_code
def dkwJ2_elementData_0 : List UInt8 := [42, 180, 0, 9, 27, 50, 176]
abbrev dktJ2_elementData_0 : List UInt8 := dkwJ2_elementData_0 ++ []
theorem dksJ2_elementData_0 : cJ2_elementData.data.toList.drop 0 = dktJ2_elementData_0 := by decide +kernel
abbrev cJ2_add : ByteArray := prog_44_method_25_code
def dkwJ2_add_1 : List UInt8 := [172]
abbrev dktJ2_add_1 : List UInt8 := dkwJ2_add_1 ++ []
def dkwJ2_add_0 : List UInt8 := [42, 89, 180, 0, 63, 4, 96, 181, 0, 63, 42, 43, 42, 180, 0, 9, 42, 180, 0, 48, 182, 0, 131, 4]
abbrev dktJ2_add_0 : List UInt8 := dkwJ2_add_0 ++ dktJ2_add_1
theorem dksJ2_add_0 : cJ2_add.data.toList.drop 0 = dktJ2_add_0 := by decide +kernel
theorem dksJ2_add_1 : cJ2_add.data.toList.drop 24 = dktJ2_add_1 := dk_seg dksJ2_add_0 24 rfl rfl
abbrev cJ2_add_2 : ByteArray := prog_44_method_24_code
def dkwJ2_add_2_0 : List UInt8 := [29, 44, 190, 160, 0, 8, 42, 182, 0, 129, 77, 44, 29, 43, 83, 42, 29, 4, 96, 181, 0, 48, 177]
abbrev dktJ2_add_2_0 : List UInt8 := dkwJ2_add_2_0 ++ []
theorem dksJ2_add_2_0 : cJ2_add_2.data.toList.drop 0 = dktJ2_add_2_0 := by decide +kernel
abbrev cJ2_grow : ByteArray := prog_44_method_7_code
def dkwJ2_grow_0 : List UInt8 := [42, 42, 180, 0, 48, 4, 96, 182, 0, 69, 176]
abbrev dktJ2_grow_0 : List UInt8 := dkwJ2_grow_0 ++ []
theorem dksJ2_grow_0 : cJ2_grow.data.toList.drop 0 = dktJ2_grow_0 := by decide +kernel
abbrev cJ2_grow_2 : ByteArray := prog_44_method_6_code
def dkwJ2_grow_2_2 : List UInt8 := [27, 184, 0, 79, 189, 0, 7, 90, 181, 0, 9, 176]
abbrev dktJ2_grow_2_2 : List UInt8 := dkwJ2_grow_2_2 ++ []
def dkwJ2_grow_2_1 : List UInt8 := [28, 4, 122, 184, 0, 73, 62, 42, 42, 180, 0, 9, 29, 184, 0, 66, 90, 181, 0, 9, 176, 42, 16, 10]
abbrev dktJ2_grow_2_1 : List UInt8 := dkwJ2_grow_2_1 ++ dktJ2_grow_2_2
def dkwJ2_grow_2_0 : List UInt8 := [42, 180, 0, 9, 190, 61, 28, 157, 0, 13, 42, 180, 0, 9, 178, 0, 39, 165, 0, 28, 28, 27, 28, 100]
abbrev dktJ2_grow_2_0 : List UInt8 := dkwJ2_grow_2_0 ++ dktJ2_grow_2_1
theorem dksJ2_grow_2_0 : cJ2_grow_2.data.toList.drop 0 = dktJ2_grow_2_0 := by decide +kernel
theorem dksJ2_grow_2_1 : cJ2_grow_2.data.toList.drop 24 = dktJ2_grow_2_1 := dk_seg dksJ2_grow_2_0 24 rfl rfl
theorem dksJ2_grow_2_2 : cJ2_grow_2.data.toList.drop 48 = dktJ2_grow_2_2 := dk_seg dksJ2_grow_2_1 24 rfl rfl
abbrev cJ3_checkIndex : ByteArray := prog_49_method_17_code
def dkwJ3_checkIndex_0 : List UInt8 := [26, 27, 1, 184, 0, 105, 172]
abbrev dktJ3_checkIndex_0 : List UInt8 := dkwJ3_checkIndex_0 ++ []
theorem dksJ3_checkIndex_0 : cJ3_checkIndex.data.toList.drop 0 = dktJ3_checkIndex_0 := by decide +kernel
abbrev cJ4_checkIndex : ByteArray := prog_53_method_11_code
def dkwJ4_checkIndex_0 : List UInt8 := [26, 155, 0, 8, 26, 27, 161, 0, 10, 44, 26, 27, 184, 0, 95, 191, 26, 172]
abbrev dktJ4_checkIndex_0 : List UInt8 := dkwJ4_checkIndex_0 ++ []
theorem dksJ4_checkIndex_0 : cJ4_checkIndex.data.toList.drop 0 = dktJ4_checkIndex_0 := by decide +kernel
abbrev cJ4_checkFromToIndex : ByteArray := prog_53_method_12_code
def dkwJ4_checkFromToIndex_0 : List UInt8 := [26, 155, 0, 13, 26, 27, 163, 0, 8, 27, 28, 164, 0, 11, 45, 26, 27, 28, 184, 0, 99, 191, 26, 172]
abbrev dktJ4_checkFromToIndex_0 : List UInt8 := dkwJ4_checkFromToIndex_0 ++ []
theorem dksJ4_checkFromToIndex_0 : cJ4_checkFromToIndex.data.toList.drop 0 = dktJ4_checkFromToIndex_0 := by decide +kernel
abbrev cJ5_length : ByteArray := prog_35_method_54_code
def dkwJ5_length_0 : List UInt8 := [42, 180, 0, 9, 190, 42, 182, 1, 79, 122, 172]
abbrev dktJ5_length_0 : List UInt8 := dkwJ5_length_0 ++ []
theorem dksJ5_length_0 : cJ5_length.data.toList.drop 0 = dktJ5_length_0 := by decide +kernel
abbrev cJ5_coder : ByteArray := prog_35_method_152_code
def dkwJ5_coder_0 : List UInt8 := [178, 0, 38, 153, 0, 10, 42, 180, 0, 15, 167, 0, 4, 4, 172]
abbrev dktJ5_coder_0 : List UInt8 := dkwJ5_coder_0 ++ []
theorem dksJ5_coder_0 : cJ5_coder.data.toList.drop 0 = dktJ5_coder_0 := by decide +kernel
abbrev cJ5_indexOf : ByteArray := prog_35_method_80_code
def dkwJ5_indexOf_1 : List UInt8 := [180, 0, 9, 27, 28, 42, 182, 1, 249, 184, 2, 128, 172]
abbrev dktJ5_indexOf_1 : List UInt8 := dkwJ5_indexOf_1 ++ []
def dkwJ5_indexOf_0 : List UInt8 := [42, 182, 1, 236, 153, 0, 19, 42, 180, 0, 9, 27, 28, 42, 182, 1, 249, 184, 2, 125, 167, 0, 16, 42]
abbrev dktJ5_indexOf_0 : List UInt8 := dkwJ5_indexOf_0 ++ dktJ5_indexOf_1
theorem dksJ5_indexOf_0 : cJ5_indexOf.data.toList.drop 0 = dktJ5_indexOf_0 := by decide +kernel
theorem dksJ5_indexOf_1 : cJ5_indexOf.data.toList.drop 24 = dktJ5_indexOf_1 := dk_seg dksJ5_indexOf_0 24 rfl rfl
abbrev cJ5_isLatin1 : ByteArray := prog_35_method_154_code
def dkwJ5_isLatin1_0 : List UInt8 := [178, 0, 38, 153, 0, 14, 42, 180, 0, 15, 154, 0, 7, 4, 167, 0, 4, 3, 172]
abbrev dktJ5_isLatin1_0 : List UInt8 := dkwJ5_isLatin1_0 ++ []
theorem dksJ5_isLatin1_0 : cJ5_isLatin1.data.toList.drop 0 = dktJ5_isLatin1_0 := by decide +kernel
abbrev cJ5_checkBoundsBeginEnd : ByteArray := prog_35_method_158_code
def dkwJ5_checkBoundsBeginEnd_0 : List UInt8 := [26, 27, 28, 178, 4, 29, 184, 4, 38, 87, 177]
abbrev dktJ5_checkBoundsBeginEnd_0 : List UInt8 := dkwJ5_checkBoundsBeginEnd_0 ++ []
theorem dksJ5_checkBoundsBeginEnd_0 : cJ5_checkBoundsBeginEnd.data.toList.drop 0 = dktJ5_checkBoundsBeginEnd_0 := by decide +kernel
abbrev cJ5_charAt : ByteArray := prog_35_method_56_code
def dkwJ5_charAt_1 : List UInt8 := [172]
abbrev dktJ5_charAt_1 : List UInt8 := dkwJ5_charAt_1 ++ []
def dkwJ5_charAt_0 : List UInt8 := [42, 182, 1, 236, 153, 0, 12, 42, 180, 0, 9, 27, 184, 1, 239, 172, 42, 180, 0, 9, 27, 184, 1, 242]
abbrev dktJ5_charAt_0 : List UInt8 := dkwJ5_charAt_0 ++ dktJ5_charAt_1
theorem dksJ5_charAt_0 : cJ5_charAt.data.toList.drop 0 = dktJ5_charAt_0 := by decide +kernel
theorem dksJ5_charAt_1 : cJ5_charAt.data.toList.drop 24 = dktJ5_charAt_1 := dk_seg dksJ5_charAt_0 24 rfl rfl
abbrev cJ5_checkIndex : ByteArray := prog_35_method_155_code
def dkwJ5_checkIndex_0 : List UInt8 := [26, 27, 178, 4, 29, 184, 4, 35, 87, 177]
abbrev dktJ5_checkIndex_0 : List UInt8 := dkwJ5_checkIndex_0 ++ []
theorem dksJ5_checkIndex_0 : cJ5_checkIndex.data.toList.drop 0 = dktJ5_checkIndex_0 := by decide +kernel
abbrev cJ5_indexOf_2 : ByteArray := prog_35_method_79_code
def dkwJ5_indexOf_2_0 : List UInt8 := [42, 27, 3, 182, 2, 121, 172]
abbrev dktJ5_indexOf_2_0 : List UInt8 := dkwJ5_indexOf_2_0 ++ []
theorem dksJ5_indexOf_2_0 : cJ5_indexOf_2.data.toList.drop 0 = dktJ5_indexOf_2_0 := by decide +kernel
abbrev cJ6_indexOf : ByteArray := prog_36_method_22_code
def dkwJ6_indexOf_1 : List UInt8 := [161, 0, 5, 2, 172, 42, 27, 28, 29, 184, 0, 95, 172]
abbrev dktJ6_indexOf_1 : List UInt8 := dkwJ6_indexOf_1 ++ []
def dkwJ6_indexOf_0 : List UInt8 := [27, 184, 0, 88, 154, 0, 5, 2, 172, 28, 3, 184, 0, 92, 61, 29, 42, 190, 184, 0, 38, 62, 28, 29]
abbrev dktJ6_indexOf_0 : List UInt8 := dkwJ6_indexOf_0 ++ dktJ6_indexOf_1
theorem dksJ6_indexOf_0 : cJ6_indexOf.data.toList.drop 0 = dktJ6_indexOf_0 := by decide +kernel
theorem dksJ6_indexOf_1 : cJ6_indexOf.data.toList.drop 24 = dktJ6_indexOf_1 := dk_seg dksJ6_indexOf_0 24 rfl rfl
abbrev cJ6_canEncode : ByteArray := prog_36_method_4_code
def dkwJ6_canEncode_0 : List UInt8 := [26, 155, 0, 14, 26, 17, 0, 255, 163, 0, 7, 4, 167, 0, 4, 3, 172]
abbrev dktJ6_canEncode_0 : List UInt8 := dkwJ6_canEncode_0 ++ []
theorem dksJ6_canEncode_0 : cJ6_canEncode.data.toList.drop 0 = dktJ6_canEncode_0 := by decide +kernel
abbrev cJ6_indexOfChar : ByteArray := prog_36_method_23_code
def dkwJ6_indexOfChar_1 : List UInt8 := [172, 132, 5, 1, 167, 255, 235, 2, 172]
abbrev dktJ6_indexOfChar_1 : List UInt8 := dkwJ6_indexOfChar_1 ++ []
def dkwJ6_indexOfChar_0 : List UInt8 := [27, 145, 54, 4, 28, 54, 5, 21, 5, 29, 162, 0, 21, 42, 21, 5, 51, 21, 4, 160, 0, 6, 21, 5]
abbrev dktJ6_indexOfChar_0 : List UInt8 := dkwJ6_indexOfChar_0 ++ dktJ6_indexOfChar_1
theorem dksJ6_indexOfChar_0 : cJ6_indexOfChar.data.toList.drop 0 = dktJ6_indexOfChar_0 := by decide +kernel
theorem dksJ6_indexOfChar_1 : cJ6_indexOfChar.data.toList.drop 24 = dktJ6_indexOfChar_1 := dk_seg dksJ6_indexOfChar_0 24 rfl rfl
abbrev cJ6_charAt : ByteArray := prog_36_method_2_code
def dkwJ6_charAt_0 : List UInt8 := [27, 42, 190, 184, 0, 9, 42, 27, 51, 17, 0, 255, 126, 146, 172]
abbrev dktJ6_charAt_0 : List UInt8 := dkwJ6_charAt_0 ++ []
theorem dksJ6_charAt_0 : cJ6_charAt.data.toList.drop 0 = dktJ6_charAt_0 := by decide +kernel
abbrev cJ7_max : ByteArray := prog_31_method_65_code
def dkwJ7_max_0 : List UInt8 := [26, 27, 161, 0, 7, 26, 167, 0, 4, 27, 172]
abbrev dktJ7_max_0 : List UInt8 := dkwJ7_max_0 ++ []
theorem dksJ7_max_0 : cJ7_max.data.toList.drop 0 = dktJ7_max_0 := by decide +kernel
abbrev cJ7_min : ByteArray := prog_31_method_69_code
def dkwJ7_min_0 : List UInt8 := [26, 27, 163, 0, 7, 26, 167, 0, 4, 27, 172]
abbrev dktJ7_min_0 : List UInt8 := dkwJ7_min_0 ++ []
theorem dksJ7_min_0 : cJ7_min.data.toList.drop 0 = dktJ7_min_0 := by decide +kernel
abbrev cJ7_abs : ByteArray := prog_31_method_59_code
def dkwJ7_abs_0 : List UInt8 := [26, 156, 0, 8, 26, 116, 167, 0, 4, 26, 172]
abbrev dktJ7_abs_0 : List UInt8 := dkwJ7_abs_0 ++ []
theorem dksJ7_abs_0 : cJ7_abs.data.toList.drop 0 = dktJ7_abs_0 := by decide +kernel
abbrev cJ7_abs_2 : ByteArray := prog_31_method_61_code
def dkwJ7_abs_2_0 : List UInt8 := [30, 9, 148, 156, 0, 8, 30, 117, 167, 0, 4, 30, 173]
abbrev dktJ7_abs_2_0 : List UInt8 := dkwJ7_abs_2_0 ++ []
theorem dksJ7_abs_2_0 : cJ7_abs_2.data.toList.drop 0 = dktJ7_abs_2_0 := by decide +kernel
abbrev cJ8_indexOf : ByteArray := prog_37_method_40_code
def dkwJ8_indexOf_1 : List UInt8 := [18, 227, 162, 0, 11, 42, 27, 28, 29, 184, 0, 228, 172, 42, 27, 28, 29, 184, 0, 232, 172]
abbrev dktJ8_indexOf_1 : List UInt8 := dkwJ8_indexOf_1 ++ []
def dkwJ8_indexOf_0 : List UInt8 := [28, 3, 184, 0, 224, 61, 29, 42, 190, 4, 122, 184, 0, 183, 62, 28, 29, 161, 0, 5, 2, 172, 27]
abbrev dktJ8_indexOf_0 : List UInt8 := dkwJ8_indexOf_0 ++ dktJ8_indexOf_1
theorem dksJ8_indexOf_0 : cJ8_indexOf.data.toList.drop 0 = dktJ8_indexOf_0 := by decide +kernel
theorem dksJ8_indexOf_1 : cJ8_indexOf.data.toList.drop 23 = dktJ8_indexOf_1 := dk_seg dksJ8_indexOf_0 23 rfl rfl
abbrev cJ8_indexOfChar : ByteArray := prog_37_method_47_code
def dkwJ8_indexOfChar_0 : List UInt8 := [28, 29, 42, 184, 0, 96, 42, 27, 28, 29, 184, 0, 244, 172]
abbrev dktJ8_indexOfChar_0 : List UInt8 := dkwJ8_indexOfChar_0 ++ []
theorem dksJ8_indexOfChar_0 : cJ8_indexOfChar.data.toList.drop 0 = dktJ8_indexOfChar_0 := by decide +kernel
abbrev cJ8_checkBoundsBeginEnd : ByteArray := prog_37_method_93_code
def dkwJ8_checkBoundsBeginEnd_0 : List UInt8 := [26, 27, 44, 184, 0, 48, 184, 0, 241, 177]
abbrev dktJ8_checkBoundsBeginEnd_0 : List UInt8 := dkwJ8_checkBoundsBeginEnd_0 ++ []
theorem dksJ8_checkBoundsBeginEnd_0 : cJ8_checkBoundsBeginEnd.data.toList.drop 0 = dktJ8_checkBoundsBeginEnd_0 := by decide +kernel
abbrev cJ8_length : ByteArray := prog_37_method_6_code
def dkwJ8_length_0 : List UInt8 := [42, 190, 4, 122, 172]
abbrev dktJ8_length_0 : List UInt8 := dkwJ8_length_0 ++ []
theorem dksJ8_length_0 : cJ8_length.data.toList.drop 0 = dktJ8_length_0 := by decide +kernel
abbrev cJ8_indexOfCharUnsafe : ByteArray := prog_37_method_48_code
def dkwJ8_indexOfCharUnsafe_1 : List UInt8 := [132, 4, 1, 167, 255, 234, 2, 172]
abbrev dktJ8_indexOfCharUnsafe_1 : List UInt8 := dkwJ8_indexOfCharUnsafe_1 ++ []
def dkwJ8_indexOfCharUnsafe_0 : List UInt8 := [28, 54, 4, 21, 4, 29, 162, 0, 22, 42, 21, 4, 184, 0, 71, 27, 160, 0, 6, 21, 4, 172]
abbrev dktJ8_indexOfCharUnsafe_0 : List UInt8 := dkwJ8_indexOfCharUnsafe_0 ++ dktJ8_indexOfCharUnsafe_1
theorem dksJ8_indexOfCharUnsafe_0 : cJ8_indexOfCharUnsafe.data.toList.drop 0 = dktJ8_indexOfCharUnsafe_0 := by decide +kernel
theorem dksJ8_indexOfCharUnsafe_1 : cJ8_indexOfCharUnsafe.data.toList.drop 22 = dktJ8_indexOfCharUnsafe_1 := dk_seg dksJ8_indexOfCharUnsafe_0 22 rfl rfl
abbrev cJ8_getChar : ByteArray := prog_37_method_5_code
def dkwJ8_getChar_2 : List UInt8 := [51, 17, 0, 255, 126, 178, 0, 63, 120, 128, 146, 172]
abbrev dktJ8_getChar_2 : List UInt8 := dkwJ8_getChar_2 ++ []
def dkwJ8_getChar_1 : List UInt8 := [183, 0, 56, 191, 27, 4, 120, 60, 42, 27, 132, 1, 1, 51, 17, 0, 255, 126, 178, 0, 59, 120, 42, 27]
abbrev dktJ8_getChar_1 : List UInt8 := dkwJ8_getChar_1 ++ dktJ8_getChar_2
def dkwJ8_getChar_0 : List UInt8 := [178, 0, 44, 154, 0, 25, 27, 155, 0, 11, 27, 42, 184, 0, 48, 161, 0, 13, 187, 0, 52, 89, 18, 54]
abbrev dktJ8_getChar_0 : List UInt8 := dkwJ8_getChar_0 ++ dktJ8_getChar_1
theorem dksJ8_getChar_0 : cJ8_getChar.data.toList.drop 0 = dktJ8_getChar_0 := by decide +kernel
theorem dksJ8_getChar_1 : cJ8_getChar.data.toList.drop 24 = dktJ8_getChar_1 := dk_seg dksJ8_getChar_0 24 rfl rfl
theorem dksJ8_getChar_2 : cJ8_getChar.data.toList.drop 48 = dktJ8_getChar_2 := dk_seg dksJ8_getChar_1 24 rfl rfl
abbrev cJ8_indexOfSupplementary : ByteArray := prog_37_method_49_code
def dkwJ8_indexOfSupplementary_3 : List UInt8 := [167, 255, 218, 2, 172]
abbrev dktJ8_indexOfSupplementary_3 : List UInt8 := dkwJ8_indexOfSupplementary_3 ++ []
def dkwJ8_indexOfSupplementary_2 : List UInt8 := [160, 0, 19, 42, 21, 6, 4, 96, 184, 0, 71, 21, 5, 160, 0, 6, 21, 6, 172, 132, 6, 1]
abbrev dktJ8_indexOfSupplementary_2 : List UInt8 := dkwJ8_indexOfSupplementary_2 ++ dktJ8_indexOfSupplementary_3
def dkwJ8_indexOfSupplementary_1 : List UInt8 := [184, 0, 96, 28, 54, 6, 21, 6, 29, 4, 100, 162, 0, 36, 42, 21, 6, 184, 0, 71, 21, 4]
abbrev dktJ8_indexOfSupplementary_1 : List UInt8 := dkwJ8_indexOfSupplementary_1 ++ dktJ8_indexOfSupplementary_2
def dkwJ8_indexOfSupplementary_0 : List UInt8 := [27, 184, 0, 164, 153, 0, 65, 27, 184, 0, 157, 54, 4, 27, 184, 0, 161, 54, 5, 28, 29, 42]
abbrev dktJ8_indexOfSupplementary_0 : List UInt8 := dkwJ8_indexOfSupplementary_0 ++ dktJ8_indexOfSupplementary_1
theorem dksJ8_indexOfSupplementary_0 : cJ8_indexOfSupplementary.data.toList.drop 0 = dktJ8_indexOfSupplementary_0 := by decide +kernel
theorem dksJ8_indexOfSupplementary_1 : cJ8_indexOfSupplementary.data.toList.drop 22 = dktJ8_indexOfSupplementary_1 := dk_seg dksJ8_indexOfSupplementary_0 22 rfl rfl
theorem dksJ8_indexOfSupplementary_2 : cJ8_indexOfSupplementary.data.toList.drop 44 = dktJ8_indexOfSupplementary_2 := dk_seg dksJ8_indexOfSupplementary_1 22 rfl rfl
theorem dksJ8_indexOfSupplementary_3 : cJ8_indexOfSupplementary.data.toList.drop 66 = dktJ8_indexOfSupplementary_3 := dk_seg dksJ8_indexOfSupplementary_2 22 rfl rfl
abbrev cJ8_charAt : ByteArray := prog_37_method_83_code
def dkwJ8_charAt_0 : List UInt8 := [27, 42, 184, 0, 67, 42, 27, 184, 0, 71, 172]
abbrev dktJ8_charAt_0 : List UInt8 := dkwJ8_charAt_0 ++ []
theorem dksJ8_charAt_0 : cJ8_charAt.data.toList.drop 0 = dktJ8_charAt_0 := by decide +kernel
abbrev cJ8_checkIndex : ByteArray := prog_37_method_91_code
def dkwJ8_checkIndex_0 : List UInt8 := [26, 43, 184, 0, 48, 184, 1, 158, 177]
abbrev dktJ8_checkIndex_0 : List UInt8 := dkwJ8_checkIndex_0 ++ []
theorem dksJ8_checkIndex_0 : cJ8_checkIndex.data.toList.drop 0 = dktJ8_checkIndex_0 := by decide +kernel
abbrev cJ9_isValidCodePoint : ByteArray := prog_23_method_11_code
def dkwJ9_isValidCodePoint_0 : List UInt8 := [26, 16, 16, 124, 60, 27, 16, 17, 162, 0, 7, 4, 167, 0, 4, 3, 172]
abbrev dktJ9_isValidCodePoint_0 : List UInt8 := dkwJ9_isValidCodePoint_0 ++ []
theorem dksJ9_isValidCodePoint_0 : cJ9_isValidCodePoint.data.toList.drop 0 = dktJ9_isValidCodePoint_0 := by decide +kernel
abbrev cJ9_highSurrogate : ByteArray := prog_23_method_28_code
def dkwJ9_highSurrogate_0 : List UInt8 := [26, 16, 10, 124, 18, 110, 96, 146, 172]
abbrev dktJ9_highSurrogate_0 : List UInt8 := dkwJ9_highSurrogate_0 ++ []
theorem dksJ9_highSurrogate_0 : cJ9_highSurrogate.data.toList.drop 0 = dktJ9_highSurrogate_0 := by decide +kernel
abbrev cJ9_lowSurrogate : ByteArray := prog_23_method_29_code
def dkwJ9_lowSurrogate_0 : List UInt8 := [26, 17, 3, 255, 126, 18, 76, 96, 146, 172]
abbrev dktJ9_lowSurrogate_0 : List UInt8 := dkwJ9_lowSurrogate_0 ++ []
theorem dksJ9_lowSurrogate_0 : cJ9_lowSurrogate.data.toList.drop 0 = dktJ9_lowSurrogate_0 := by decide +kernel
abbrev cJ10_init : ByteArray := prog_39_method_1_code
def dkwJ10_init_1 : List UInt8 := [182, 0, 27, 87, 177]
abbrev dktJ10_init_1 : List UInt8 := dkwJ10_init_1 ++ []
def dkwJ10_init_0 : List UInt8 := [42, 183, 0, 1, 42, 42, 181, 0, 7, 42, 178, 0, 13, 181, 0, 17, 42, 178, 0, 20, 181, 0, 24, 42]
abbrev dktJ10_init_0 : List UInt8 := dkwJ10_init_0 ++ dktJ10_init_1
theorem dksJ10_init_0 : cJ10_init.data.toList.drop 0 = dktJ10_init_0 := by decide +kernel
theorem dksJ10_init_1 : cJ10_init.data.toList.drop 24 = dktJ10_init_1 := dk_seg dksJ10_init_0 24 rfl rfl
abbrev cJ10_init_2 : ByteArray := prog_39_method_5_code
def dkwJ10_init_2_2 : List UInt8 := [44, 181, 0, 7, 29, 154, 0, 8, 42, 1, 181, 0, 24, 177]
abbrev dktJ10_init_2_2 : List UInt8 := dkwJ10_init_2_2 ++ []
def dkwJ10_init_2_1 : List UInt8 := [21, 4, 153, 0, 11, 42, 182, 0, 27, 87, 167, 0, 8, 42, 1, 181, 0, 17, 42, 43, 181, 0, 31, 42]
abbrev dktJ10_init_2_1 : List UInt8 := dkwJ10_init_2_1 ++ dktJ10_init_2_2
def dkwJ10_init_2_0 : List UInt8 := [42, 183, 0, 1, 42, 42, 181, 0, 7, 42, 178, 0, 13, 181, 0, 17, 42, 178, 0, 20, 181, 0, 24]
abbrev dktJ10_init_2_0 : List UInt8 := dkwJ10_init_2_0 ++ dktJ10_init_2_1
theorem dksJ10_init_2_0 : cJ10_init_2.data.toList.drop 0 = dktJ10_init_2_0 := by decide +kernel
theorem dksJ10_init_2_1 : cJ10_init_2.data.toList.drop 23 = dktJ10_init_2_1 := dk_seg dksJ10_init_2_0 23 rfl rfl
theorem dksJ10_init_2_2 : cJ10_init_2.data.toList.drop 47 = dktJ10_init_2_2 := dk_seg dksJ10_init_2_1 24 rfl rfl
abbrev cJ10_init_3 : ByteArray := prog_39_method_2_code
def dkwJ10_init_3_1 : List UInt8 := [182, 0, 27, 87, 42, 43, 181, 0, 31, 177]
abbrev dktJ10_init_3_1 : List UInt8 := dkwJ10_init_3_1 ++ []
def dkwJ10_init_3_0 : List UInt8 := [42, 183, 0, 1, 42, 42, 181, 0, 7, 42, 178, 0, 13, 181, 0, 17, 42, 178, 0, 20, 181, 0, 24, 42]
abbrev dktJ10_init_3_0 : List UInt8 := dkwJ10_init_3_0 ++ dktJ10_init_3_1
theorem dksJ10_init_3_0 : cJ10_init_3.data.toList.drop 0 = dktJ10_init_3_0 := by decide +kernel
theorem dksJ10_init_3_1 : cJ10_init_3.data.toList.drop 24 = dktJ10_init_3_1 := dk_seg dksJ10_init_3_0 24 rfl rfl
abbrev cJ11_init : ByteArray := prog_26_method_5_code
def dkwJ11_init_0 : List UInt8 := [42, 43, 44, 29, 21, 4, 183, 0, 16, 177]
abbrev dktJ11_init_0 : List UInt8 := dkwJ11_init_0 ++ []
theorem dksJ11_init_0 : cJ11_init.data.toList.drop 0 = dktJ11_init_0 := by decide +kernel
abbrev cJ11_init_2 : ByteArray := prog_26_method_2_code
def dkwJ11_init_2_0 : List UInt8 := [42, 43, 183, 0, 7, 177]
abbrev dktJ11_init_2_0 : List UInt8 := dkwJ11_init_2_0 ++ []
theorem dksJ11_init_2_0 : cJ11_init_2.data.toList.drop 0 = dktJ11_init_2_0 := by decide +kernel
abbrev cJ11_init_3 : ByteArray := prog_26_method_1_code
abbrev cJ12_init : ByteArray := prog_33_method_1_code
abbrev cJ13_newLength : ByteArray := prog_52_method_27_code
def dkwJ13_newLength_1 : List UInt8 := [184, 0, 201, 172]
abbrev dktJ13_newLength_1 : List UInt8 := dkwJ13_newLength_1 ++ []
def dkwJ13_newLength_0 : List UInt8 := [26, 27, 28, 184, 0, 194, 96, 62, 3, 29, 162, 0, 11, 29, 18, 200, 163, 0, 5, 29, 172, 26, 27]
abbrev dktJ13_newLength_0 : List UInt8 := dkwJ13_newLength_0 ++ dktJ13_newLength_1
theorem dksJ13_newLength_0 : cJ13_newLength.data.toList.drop 0 = dktJ13_newLength_0 := by decide +kernel
theorem dksJ13_newLength_1 : cJ13_newLength.data.toList.drop 23 = dktJ13_newLength_1 := dk_seg dksJ13_newLength_0 23 rfl rfl
abbrev cJ13_hugeLength : ByteArray := prog_52_method_28_code
def dkwJ13_hugeLength_2 : List UInt8 := [191, 28, 18, 200, 163, 0, 6, 18, 200, 172, 28, 172]
abbrev dktJ13_hugeLength_2 : List UInt8 := dkwJ13_hugeLength_2 ++ []
def dkwJ13_hugeLength_1 : List UInt8 := [26, 182, 0, 98, 18, 208, 182, 0, 94, 27, 182, 0, 98, 18, 210, 182, 0, 94, 182, 0, 101, 183, 0, 212]
abbrev dktJ13_hugeLength_1 : List UInt8 := dkwJ13_hugeLength_1 ++ dktJ13_hugeLength_2
def dkwJ13_hugeLength_0 : List UInt8 := [26, 27, 96, 61, 28, 156, 0, 44, 187, 0, 204, 89, 187, 0, 89, 89, 183, 0, 91, 18, 206, 182, 0, 94]
abbrev dktJ13_hugeLength_0 : List UInt8 := dkwJ13_hugeLength_0 ++ dktJ13_hugeLength_1
theorem dksJ13_hugeLength_0 : cJ13_hugeLength.data.toList.drop 0 = dktJ13_hugeLength_0 := by decide +kernel
theorem dksJ13_hugeLength_1 : cJ13_hugeLength.data.toList.drop 24 = dktJ13_hugeLength_1 := dk_seg dksJ13_hugeLength_0 24 rfl rfl
theorem dksJ13_hugeLength_2 : cJ13_hugeLength.data.toList.drop 48 = dktJ13_hugeLength_2 := dk_seg dksJ13_hugeLength_1 24 rfl rfl
abbrev cJ14_copyOf : ByteArray := prog_45_method_119_code
def dkwJ14_copyOf_0 : List UInt8 := [42, 27, 42, 182, 0, 86, 184, 1, 44, 176]
abbrev dktJ14_copyOf_0 : List UInt8 := dkwJ14_copyOf_0 ++ []
theorem dksJ14_copyOf_0 : cJ14_copyOf.data.toList.drop 0 = dktJ14_copyOf_0 := by decide +kernel
abbrev cJ14_copyOf_2 : ByteArray := prog_45_method_120_code
def dkwJ14_copyOf_2_1 : List UInt8 := [78, 42, 3, 45, 3, 42, 190, 27, 184, 1, 48, 184, 0, 150, 45, 176]
abbrev dktJ14_copyOf_2_1 : List UInt8 := dkwJ14_copyOf_2_1 ++ []
def dkwJ14_copyOf_2_0 : List UInt8 := [44, 18, 110, 166, 0, 10, 27, 189, 0, 2, 167, 0, 14, 44, 182, 0, 90, 27, 184, 0, 95, 192, 0, 110]
abbrev dktJ14_copyOf_2_0 : List UInt8 := dkwJ14_copyOf_2_0 ++ dktJ14_copyOf_2_1
theorem dksJ14_copyOf_2_0 : cJ14_copyOf_2.data.toList.drop 0 = dktJ14_copyOf_2_0 := by decide +kernel
theorem dksJ14_copyOf_2_1 : cJ14_copyOf_2.data.toList.drop 24 = dktJ14_copyOf_2_1 := dk_seg dksJ14_copyOf_2_0 24 rfl rfl
abbrev cJ15_init : ByteArray := prog_34_method_2_code
def dkwJ15_init_0 : List UInt8 := [42, 43, 183, 0, 7, 177]
abbrev dktJ15_init_0 : List UInt8 := dkwJ15_init_0 ++ []
theorem dksJ15_init_0 : cJ15_init.data.toList.drop 0 = dktJ15_init_0 := by decide +kernel
abbrev cJ15_init_2 : ByteArray := prog_34_method_1_code
abbrev cJ16_init : ByteArray := prog_27_method_2_code
def dkwJ16_init_0 : List UInt8 := [42, 43, 183, 0, 7, 177]
abbrev dktJ16_init_0 : List UInt8 := dkwJ16_init_0 ++ []
theorem dksJ16_init_0 : cJ16_init.data.toList.drop 0 = dktJ16_init_0 := by decide +kernel
abbrev cJ16_init_2 : ByteArray := prog_27_method_1_code
abbrev cJ17_init : ByteArray := prog_21_method_2_code
def dkwJ17_init_0 : List UInt8 := [42, 43, 183, 0, 7, 177]
abbrev dktJ17_init_0 : List UInt8 := dkwJ17_init_0 ++ []
theorem dksJ17_init_0 : cJ17_init.data.toList.drop 0 = dktJ17_init_0 := by decide +kernel
abbrev cJ18_init : ByteArray := prog_48_method_1_code
abbrev cJ19_numberOfTrailingZeros : ByteArray := prog_30_method_49_code
def dkwJ19_numberOfTrailingZeros_1 : List UInt8 := [184, 1, 55, 172]
abbrev dktJ19_numberOfTrailingZeros_1 : List UInt8 := dkwJ19_numberOfTrailingZeros_1 ++ []
def dkwJ19_numberOfTrailingZeros_0 : List UInt8 := [30, 136, 61, 28, 154, 0, 17, 16, 32, 30, 16, 32, 125, 136, 184, 1, 55, 96, 167, 0, 7, 28]
abbrev dktJ19_numberOfTrailingZeros_0 : List UInt8 := dkwJ19_numberOfTrailingZeros_0 ++ dktJ19_numberOfTrailingZeros_1
theorem dksJ19_numberOfTrailingZeros_0 : cJ19_numberOfTrailingZeros.data.toList.drop 0 = dktJ19_numberOfTrailingZeros_0 := by decide +kernel
theorem dksJ19_numberOfTrailingZeros_1 : cJ19_numberOfTrailingZeros.data.toList.drop 22 = dktJ19_numberOfTrailingZeros_1 := dk_seg dksJ19_numberOfTrailingZeros_0 22 rfl rfl
abbrev cJ19_bitCount : ByteArray := prog_30_method_50_code
def dkwJ19_bitCount_2 : List UInt8 := [30, 30, 16, 32, 125, 97, 63, 30, 136, 16, 127, 126, 172]
abbrev dktJ19_bitCount_2 : List UInt8 := dkwJ19_bitCount_2 ++ []
def dkwJ19_bitCount_1 : List UInt8 := [30, 30, 7, 125, 97, 20, 1, 62, 127, 63, 30, 30, 16, 8, 125, 97, 63, 30, 30, 16, 16, 125, 97, 63]
abbrev dktJ19_bitCount_1 : List UInt8 := dkwJ19_bitCount_1 ++ dktJ19_bitCount_2
def dkwJ19_bitCount_0 : List UInt8 := [30, 30, 4, 125, 20, 1, 58, 127, 101, 63, 30, 20, 1, 60, 127, 30, 5, 125, 20, 1, 60, 127, 97, 63]
abbrev dktJ19_bitCount_0 : List UInt8 := dkwJ19_bitCount_0 ++ dktJ19_bitCount_1
theorem dksJ19_bitCount_0 : cJ19_bitCount.data.toList.drop 0 = dktJ19_bitCount_0 := by decide +kernel
theorem dksJ19_bitCount_1 : cJ19_bitCount.data.toList.drop 24 = dktJ19_bitCount_1 := dk_seg dksJ19_bitCount_0 24 rfl rfl
theorem dksJ19_bitCount_2 : cJ19_bitCount.data.toList.drop 48 = dktJ19_bitCount_2 := dk_seg dksJ19_bitCount_1 24 rfl rfl
abbrev cJ20_numberOfTrailingZeros : ByteArray := prog_28_method_48_code
def dkwJ20_numberOfTrailingZeros_3 : List UInt8 := [5, 124, 59, 27, 26, 4, 124, 96, 172]
abbrev dktJ20_numberOfTrailingZeros_3 : List UInt8 := dkwJ20_numberOfTrailingZeros_3 ++ []
def dkwJ20_numberOfTrailingZeros_2 : List UInt8 := [124, 59, 26, 16, 16, 164, 0, 10, 132, 1, 4, 26, 7, 124, 59, 26, 7, 164, 0, 10, 132, 1, 2, 26]
abbrev dktJ20_numberOfTrailingZeros_2 : List UInt8 := dkwJ20_numberOfTrailingZeros_2 ++ dktJ20_numberOfTrailingZeros_3
def dkwJ20_numberOfTrailingZeros_1 : List UInt8 := [164, 0, 11, 132, 1, 16, 26, 16, 16, 124, 59, 26, 17, 1, 0, 164, 0, 11, 132, 1, 8, 26, 16, 8]
abbrev dktJ20_numberOfTrailingZeros_1 : List UInt8 := dkwJ20_numberOfTrailingZeros_1 ++ dktJ20_numberOfTrailingZeros_2
def dkwJ20_numberOfTrailingZeros_0 : List UInt8 := [26, 2, 130, 26, 4, 100, 126, 59, 26, 157, 0, 8, 26, 16, 32, 126, 172, 4, 60, 26, 19, 1, 8]
abbrev dktJ20_numberOfTrailingZeros_0 : List UInt8 := dkwJ20_numberOfTrailingZeros_0 ++ dktJ20_numberOfTrailingZeros_1
theorem dksJ20_numberOfTrailingZeros_0 : cJ20_numberOfTrailingZeros.data.toList.drop 0 = dktJ20_numberOfTrailingZeros_0 := by decide +kernel
theorem dksJ20_numberOfTrailingZeros_1 : cJ20_numberOfTrailingZeros.data.toList.drop 23 = dktJ20_numberOfTrailingZeros_1 := dk_seg dksJ20_numberOfTrailingZeros_0 23 rfl rfl
theorem dksJ20_numberOfTrailingZeros_2 : cJ20_numberOfTrailingZeros.data.toList.drop 47 = dktJ20_numberOfTrailingZeros_2 := dk_seg dksJ20_numberOfTrailingZeros_1 24 rfl rfl
theorem dksJ20_numberOfTrailingZeros_3 : cJ20_numberOfTrailingZeros.data.toList.drop 71 = dktJ20_numberOfTrailingZeros_3 := dk_seg dksJ20_numberOfTrailingZeros_2 24 rfl rfl
abbrev cJ21_init : ByteArray := object_method_1_code
